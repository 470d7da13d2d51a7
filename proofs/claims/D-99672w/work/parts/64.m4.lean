/-- goesToNextOrder()Z -/
def m_goesToNextOrder (μ : Mem) : Option (Bool × Mem) :=
  nm ((μ 57 0) - (nI 2)) fun v1 =>
  jn (fun (j2 : Int32) =>
  if 0 ≤ j2 then
  nm ((μ 57 0) - (nI 1)) fun v5 =>
  jn (fun (j6 : Int32) =>
  (rd μ 60 6 j2).bind fun v9 =>
  (rd μ 60 6 j6).bind fun v10 =>
  (wr μ 60 6 j2 v10).bind fun μ11 =>
  (wr μ11 60 6 j6 v9).bind fun μ12 =>
  nm ((μ12 57 0) - (nI 1)) fun v13 =>
  lp (fun again15 (j14 : Int32 × Int32 × Mem) =>
  if j14.1 ≤ j14.2.1 then
  some (true, j14.2.2)
  else
  (rd j14.2.2 60 6 j14.2.1).bind fun v17 =>
  (rd j14.2.2 60 6 j14.1).bind fun v18 =>
  (wr j14.2.2 60 6 j14.2.1 v18).bind fun μ19 =>
  (wr μ19 60 6 j14.1 v17).bind fun μ20 =>
  nm (j14.1 - (nI 1)) fun v21 =>
  again15 (v21, (j14.2.1 + (nI 1)), μ20)) fuel (v13, (j2 + (nI 1)), μ12)) (fun k7 =>
  lp (fun again23 (j22 : Int32) =>
  (rd μ 60 6 j22).bind fun v25 =>
  (rd μ 60 6 j2).bind fun v26 =>
  if v26 ≤ v25 then
  k7 j22
  else
  nm (j22 - (nI 1)) fun v27 =>
  again23 v27) fuel v5)
  else
  some (false, μ)) (fun k3 =>
  lp (fun again29 (j28 : Int32) =>
  if j28 < 0 then
  k3 j28
  else
  (rd μ 60 6 j28).bind fun v31 =>
  (rd μ 60 6 (j28 + (nI 1))).bind fun v32 =>
  if v31 ≤ v32 then
  k3 j28
  else
  nm (j28 - (nI 1)) fun v33 =>
  again29 v33) fuel v1)
theorem wd_goesToNextOrder : yX4_goesToNextOrder.cls = RX4 ∧ yX4_goesToNextOrder.cls ≠ "java/lang/invoke/MethodHandle" ∧ yX4_goesToNextOrder.cls ≠ "java/lang/invoke/VarHandle" ∧ (parseMethodDescriptor yX4_goesToNextOrder.desc).map (fun d => d.parameters.length) = some 0 := by decide +kernel
set_option maxRecDepth 100000 in
theorem ct_goesToNextOrder (μ : Mem) : CtM yX4_goesToNextOrder cX4_goesToNextOrder 6 (some .boolean) 0 0 [] μ (fun r => (some (.int (bI r.1)), r.2)) (m_goesToNextOrder μ) := by
  refine CtM.of (by decide) rfl (fun _ => Nat.le_of_ble_eq_true rfl) ?_
  intro l D cl ci cA am p e s m args below meth c hcl K hr hlk hK
  refine g_sub (ls' := [(0, .ref am)]) [0] rfl ?_
  unfold m_goesToNextOrder
  refine g_aloadn K 0 rfl rfl 1 dX4_goesToNextOrder_0 rfl ?_
  refine gm_get K hK hcl 57 4 (by decide) q1542 rfl dX4_goesToNextOrder_1 rfl ?_
  refine g_iconst K (nI 2) ic_2 5 dX4_goesToNextOrder_4 rfl ?_
  refine g_isub K 6 dX4_goesToNextOrder_5 rfl ?_
  refine g_nm (fun v1 _ => ?_)
  refine g_istoren K [(0, .ref am), (1, .int v1)] [1, 0] rfl (by decide) rfl 7 dX4_goesToNextOrder_6 rfl ?_
  refine g_jn (head := 35) (L := fun j2 => [(0, .ref am), (1, .int j2)]) (sf := fun j2 => []) (mf := fun j2 => μ) (fun j2 => ?_) (fun k3 h4 => ?_)
  · try dsimp only
    refine g_iloadn K 1 rfl rfl 36 dX4_goesToNextOrder_35 rfl ?_
    refine g_if_ge K 39 41 dX4_goesToNextOrder_36 rfl (by decide) (fun _ => ?_) (fun _ => ?_)
    · refine g_aloadn K 0 rfl rfl 42 dX4_goesToNextOrder_41 rfl ?_
      refine gm_get K hK hcl 57 45 (by decide) q1542 rfl dX4_goesToNextOrder_42 rfl ?_
      refine g_iconst K (nI 1) ic_1 46 dX4_goesToNextOrder_45 rfl ?_
      refine g_isub K 47 dX4_goesToNextOrder_46 rfl ?_
      refine g_nm (fun v5 _ => ?_)
      refine g_istoren K [(0, .ref am), (1, .int j2), (2, .int v5)] [1, 2, 0] rfl (by decide) rfl 48 dX4_goesToNextOrder_47 rfl ?_
      refine g_jn (head := 70) (L := fun j6 => [(0, .ref am), (1, .int j2), (2, .int j6)]) (sf := fun j6 => []) (mf := fun j6 => μ) (fun j6 => ?_) (fun k7 h8 => ?_)
      · try dsimp only
        refine g_aloadn K 0 rfl rfl 71 dX4_goesToNextOrder_70 rfl ?_
        refine gm_get K hK hcl 60 74 (by decide) q1545 rfl dX4_goesToNextOrder_71 rfl ?_
        refine g_iloadn K 1 rfl rfl 75 dX4_goesToNextOrder_74 rfl ?_
        refine gm_ald K hK hcl 60 35 6 76 rfl dX4_goesToNextOrder_75 rfl (fun v9 _ => ?_)
        refine g_istoren K [(0, .ref am), (1, .int j2), (2, .int j6), (3, .int v9)] [1, 2, 3, 0] rfl (by decide) rfl 77 dX4_goesToNextOrder_76 rfl ?_
        refine g_aloadn K 0 rfl rfl 78 dX4_goesToNextOrder_77 rfl ?_
        refine gm_get K hK hcl 60 81 (by decide) q1545 rfl dX4_goesToNextOrder_78 rfl ?_
        refine g_iloadn K 1 rfl rfl 82 dX4_goesToNextOrder_81 rfl ?_
        refine g_aloadn K 0 rfl rfl 83 dX4_goesToNextOrder_82 rfl ?_
        refine gm_get K hK hcl 60 86 (by decide) q1545 rfl dX4_goesToNextOrder_83 rfl ?_
        refine g_iloadn K 2 rfl rfl 87 dX4_goesToNextOrder_86 rfl ?_
        refine gm_ald K hK hcl 60 35 6 88 rfl dX4_goesToNextOrder_87 rfl (fun v10 _ => ?_)
        refine gm_ast K hK hcl 60 35 6 89 rfl (fun _ => rfl) dX4_goesToNextOrder_88 rfl (fun μ11 _ => ?_)
        refine g_aloadn K 0 rfl rfl 90 dX4_goesToNextOrder_89 rfl ?_
        refine gm_get K hK hcl 60 93 (by decide) q1545 rfl dX4_goesToNextOrder_90 rfl ?_
        refine g_iloadn K 2 rfl rfl 94 dX4_goesToNextOrder_93 rfl ?_
        refine g_iloadn K 3 rfl rfl 95 dX4_goesToNextOrder_94 rfl ?_
        refine gm_ast K hK hcl 60 35 6 96 rfl (fun _ => rfl) dX4_goesToNextOrder_95 rfl (fun μ12 _ => ?_)
        refine g_aloadn K 0 rfl rfl 97 dX4_goesToNextOrder_96 rfl ?_
        refine gm_get K hK hcl 57 100 (by decide) q1542 rfl dX4_goesToNextOrder_97 rfl ?_
        refine g_iconst K (nI 1) ic_1 101 dX4_goesToNextOrder_100 rfl ?_
        refine g_isub K 102 dX4_goesToNextOrder_101 rfl ?_
        refine g_nm (fun v13 _ => ?_)
        refine g_istore K [(0, .ref am), (1, .int j2), (4, .int v13)] [1, 2, 0] (by decide) rfl 104 dX4_goesToNextOrder_102 rfl ?_
        refine g_iloadn K 1 rfl rfl 105 dX4_goesToNextOrder_104 rfl ?_
        refine g_iconst K (nI 1) ic_1 106 dX4_goesToNextOrder_105 rfl ?_
        refine g_iadd K 107 dX4_goesToNextOrder_106 rfl ?_
        refine g_istore K [(0, .ref am), (4, .int v13), (5, .int (j2 + (nI 1)))] [1, 3, 0] (by decide) rfl 109 dX4_goesToNextOrder_107 rfl ?_
        refine g_lp (head := 109) (L := fun j14 => [(0, .ref am), (4, .int j14.1), (5, .int j14.2.1)]) (sf := fun j14 => []) (mf := fun j14 => j14.2.2) (fun again15 h16 j14 => ?_) fuel (v13, (j2 + (nI 1)), μ12)
        try dsimp only
        refine g_iload K 2 rfl 111 dX4_goesToNextOrder_109 rfl ?_
        refine g_iload K 1 rfl 113 dX4_goesToNextOrder_111 rfl ?_
        refine g_icmp_ge K 116 158 dX4_goesToNextOrder_113 rfl (by decide) (fun _ => ?_) (fun _ => ?_)
        · refine g_iconst K (nI 1) ic_1 159 dX4_goesToNextOrder_158 rfl ?_
          exact gm_zret K hK hcl hr hlk (b := true) dX4_goesToNextOrder_159 rfl rfl
        · refine g_aloadn K 0 rfl rfl 117 dX4_goesToNextOrder_116 rfl ?_
          refine gm_get K hK hcl 60 120 (by decide) q1545 rfl dX4_goesToNextOrder_117 rfl ?_
          refine g_iload K 2 rfl 122 dX4_goesToNextOrder_120 rfl ?_
          refine gm_ald K hK hcl 60 35 6 123 rfl dX4_goesToNextOrder_122 rfl (fun v17 _ => ?_)
          refine g_istoren K [(0, .ref am), (3, .int v17), (4, .int j14.1), (5, .int j14.2.1)] [1, 0, 2, 3] rfl (by decide) rfl 124 dX4_goesToNextOrder_123 rfl ?_
          refine g_aloadn K 0 rfl rfl 125 dX4_goesToNextOrder_124 rfl ?_
          refine gm_get K hK hcl 60 128 (by decide) q1545 rfl dX4_goesToNextOrder_125 rfl ?_
          refine g_iload K 3 rfl 130 dX4_goesToNextOrder_128 rfl ?_
          refine g_aloadn K 0 rfl rfl 131 dX4_goesToNextOrder_130 rfl ?_
          refine gm_get K hK hcl 60 134 (by decide) q1545 rfl dX4_goesToNextOrder_131 rfl ?_
          refine g_iload K 2 rfl 136 dX4_goesToNextOrder_134 rfl ?_
          refine gm_ald K hK hcl 60 35 6 137 rfl dX4_goesToNextOrder_136 rfl (fun v18 _ => ?_)
          refine gm_ast K hK hcl 60 35 6 138 rfl (fun _ => rfl) dX4_goesToNextOrder_137 rfl (fun μ19 _ => ?_)
          refine g_aloadn K 0 rfl rfl 139 dX4_goesToNextOrder_138 rfl ?_
          refine gm_get K hK hcl 60 142 (by decide) q1545 rfl dX4_goesToNextOrder_139 rfl ?_
          refine g_iload K 2 rfl 144 dX4_goesToNextOrder_142 rfl ?_
          refine g_iloadn K 1 rfl rfl 145 dX4_goesToNextOrder_144 rfl ?_
          refine gm_ast K hK hcl 60 35 6 146 rfl (fun _ => rfl) dX4_goesToNextOrder_145 rfl (fun μ20 _ => ?_)
          refine g_iload K 2 rfl 148 dX4_goesToNextOrder_146 rfl ?_
          refine g_iconst K (nI 1) ic_1 149 dX4_goesToNextOrder_148 rfl ?_
          refine g_isub K 150 dX4_goesToNextOrder_149 rfl ?_
          refine g_nm (fun v21 _ => ?_)
          refine g_istore K [(0, .ref am), (4, .int v21), (5, .int j14.2.1)] [1, 0, 3] (by decide) rfl 152 dX4_goesToNextOrder_150 rfl ?_
          refine g_iinc K (j14.2.1 + (nI 1)) 2 [(0, .ref am), (4, .int v21), (5, .int (j14.2.1 + (nI 1)))] [1, 2, 0] rfl (by rw [ic_1]) (by decide) rfl 155 dX4_goesToNextOrder_152 rfl ?_
          refine g_goto K 109 dX4_goesToNextOrder_155 (by decide) ?_
          exact h16 (v21, (j14.2.1 + (nI 1)), μ20)
      · refine g_lp (head := 48) (L := fun j22 => [(0, .ref am), (1, .int j2), (2, .int j22)]) (sf := fun j22 => []) (mf := fun j22 => μ) (fun again23 h24 j22 => ?_) fuel v5
        try dsimp only
        refine g_aloadn K 0 rfl rfl 49 dX4_goesToNextOrder_48 rfl ?_
        refine gm_get K hK hcl 60 52 (by decide) q1545 rfl dX4_goesToNextOrder_49 rfl ?_
        refine g_iloadn K 2 rfl rfl 53 dX4_goesToNextOrder_52 rfl ?_
        refine gm_ald K hK hcl 60 35 6 54 rfl dX4_goesToNextOrder_53 rfl (fun v25 _ => ?_)
        refine g_aloadn K 0 rfl rfl 55 dX4_goesToNextOrder_54 rfl ?_
        refine gm_get K hK hcl 60 58 (by decide) q1545 rfl dX4_goesToNextOrder_55 rfl ?_
        refine g_iloadn K 1 rfl rfl 59 dX4_goesToNextOrder_58 rfl ?_
        refine gm_ald K hK hcl 60 35 6 60 rfl dX4_goesToNextOrder_59 rfl (fun v26 _ => ?_)
        refine g_icmp_ge K 63 70 dX4_goesToNextOrder_60 rfl (by decide) (fun _ => ?_) (fun _ => ?_)
        · exact h8 j22
        · refine g_iloadn K 2 rfl rfl 64 dX4_goesToNextOrder_63 rfl ?_
          refine g_iconst K (nI 1) ic_1 65 dX4_goesToNextOrder_64 rfl ?_
          refine g_isub K 66 dX4_goesToNextOrder_65 rfl ?_
          refine g_nm (fun v27 _ => ?_)
          refine g_istoren K [(0, .ref am), (1, .int j2), (2, .int v27)] [1, 2, 0] rfl (by decide) rfl 67 dX4_goesToNextOrder_66 rfl ?_
          refine g_goto K 48 dX4_goesToNextOrder_67 (by decide) ?_
          exact h24 v27
    · refine g_iconst K (nI 0) ic_0 40 dX4_goesToNextOrder_39 rfl ?_
      exact gm_zret K hK hcl hr hlk (b := false) dX4_goesToNextOrder_40 rfl rfl
  · refine g_lp (head := 7) (L := fun j28 => [(0, .ref am), (1, .int j28)]) (sf := fun j28 => []) (mf := fun j28 => μ) (fun again29 h30 j28 => ?_) fuel v1
    try dsimp only
    refine g_iloadn K 1 rfl rfl 8 dX4_goesToNextOrder_7 rfl ?_
    refine g_if_lt K 11 35 dX4_goesToNextOrder_8 rfl (by decide) (fun _ => ?_) (fun _ => ?_)
    · exact h4 j28
    · refine g_aloadn K 0 rfl rfl 12 dX4_goesToNextOrder_11 rfl ?_
      refine gm_get K hK hcl 60 15 (by decide) q1545 rfl dX4_goesToNextOrder_12 rfl ?_
      refine g_iloadn K 1 rfl rfl 16 dX4_goesToNextOrder_15 rfl ?_
      refine gm_ald K hK hcl 60 35 6 17 rfl dX4_goesToNextOrder_16 rfl (fun v31 _ => ?_)
      refine g_aloadn K 0 rfl rfl 18 dX4_goesToNextOrder_17 rfl ?_
      refine gm_get K hK hcl 60 21 (by decide) q1545 rfl dX4_goesToNextOrder_18 rfl ?_
      refine g_iloadn K 1 rfl rfl 22 dX4_goesToNextOrder_21 rfl ?_
      refine g_iconst K (nI 1) ic_1 23 dX4_goesToNextOrder_22 rfl ?_
      refine g_iadd K 24 dX4_goesToNextOrder_23 rfl ?_
      refine gm_ald K hK hcl 60 35 6 25 rfl dX4_goesToNextOrder_24 rfl (fun v32 _ => ?_)
      refine g_icmp_le K 28 35 dX4_goesToNextOrder_25 rfl (by decide) (fun _ => ?_) (fun _ => ?_)
      · exact h4 j28
      · refine g_iloadn K 1 rfl rfl 29 dX4_goesToNextOrder_28 rfl ?_
        refine g_iconst K (nI 1) ic_1 30 dX4_goesToNextOrder_29 rfl ?_
        refine g_isub K 31 dX4_goesToNextOrder_30 rfl ?_
        refine g_nm (fun v33 _ => ?_)
        refine g_istoren K [(0, .ref am), (1, .int v33)] [1, 0] rfl (by decide) rfl 32 dX4_goesToNextOrder_31 rfl ?_
        refine g_goto K 7 dX4_goesToNextOrder_32 (by decide) ?_
        exact h30 v33
/-- ovens(I)I -/
def m_ovens (μ : Mem) (x1 : Int32) : Option (Int32 × Mem) :=
  nm (up2 μ 0 0 (nI 0)) fun μ1 =>
  jn (fun (j2 : Unit) =>
  jn (fun (j5 : Mem) =>
  jn (fun (j8 : Int32 × Mem) =>
  if x1 = 0 then
  some (j8.1, j8.2)
  else
  (rd j8.2 61 6 (x1 - (nI 10))).bind fun v11 =>
  some (v11, j8.2)) (fun k9 =>
  lp (fun again13 (j12 : Int32 × Int32 × Mem) =>
  if j12.2.1 = 0 then
  k9 (j12.1, j12.2.2)
  else
  (m_doneBy j12.2.2).bind fun r15 =>
  jn (fun (j16 : Mem) =>
  (m_lesser j16 j12.1 r15).bind fun r19 =>
  (m_goesToNextOrder j16).bind fun r20 =>
  again13 (r19, (bI r20.1), r20.2)) (fun k17 =>
  lp (fun again22 (j21 : Int32 × Mem) =>
  if (j21.2 57 0) ≤ j21.1 then
  k17 j21.2
  else
  if j12.1 ≤ r15 then
  k17 j21.2
  else
  (rd j21.2 60 6 j21.1).bind fun v24 =>
  (wr j21.2 61 6 j21.1 v24).bind fun μ25 =>
  again22 ((j21.1 + (nI 1)), μ25)) fuel ((nI 0), j12.2.2))) fuel ((100000000 : Int32), (nI 1), j5))) (fun k6 =>
  lp (fun again27 (j26 : Int32 × Mem) =>
  if (j26.2 57 0) ≤ j26.1 then
  k6 j26.2
  else
  (wr j26.2 60 6 j26.1 j26.1).bind fun μ29 =>
  again27 ((j26.1 + (nI 1)), μ29)) fuel ((nI 0), μ1))) (fun k3 =>
  if x1 = 0 then
  k3 ()
  else
  (m_isIn μ1 x1 (nI 10) ((nI 9) + (μ1 57 0))).bind fun r30 =>
  if (bI r30) = 0 then
  some ((-1 : Int32), μ1)
  else
  k3 ())
theorem wd_ovens : yX4_ovens.cls = RX4 ∧ yX4_ovens.cls ≠ "java/lang/invoke/MethodHandle" ∧ yX4_ovens.cls ≠ "java/lang/invoke/VarHandle" ∧ (parseMethodDescriptor yX4_ovens.desc).map (fun d => d.parameters.length) = some 1 := by decide +kernel
set_option maxRecDepth 100000 in
theorem ct_ovens (μ : Mem) (x1 : Int32) : CtM yX4_ovens cX4_ovens 6 (some .int) 2 45 [.int x1] μ (fun r => (some (.int r.1), r.2)) (m_ovens μ x1) := by
  refine CtM.of (by decide) rfl (fun _ => Nat.le_of_ble_eq_true rfl) ?_
  intro l D cl ci cA am p e s m args below meth c hcl K hr hlk hK
  refine g_sub (ls' := [(0, .ref am), (1, .int x1)]) [0, 1] rfl ?_
  unfold m_ovens
  refine g_aloadn K 0 rfl rfl 1 dX4_ovens_0 rfl ?_
  refine g_iconst K (nI 0) ic_0 2 dX4_ovens_1 rfl ?_
  refine gm_put K hK hcl 0 (ty := .int) 5 (by decide) q1485 rfl (by decide +kernel) rfl rfl rfl dX4_ovens_2 rfl (fun μ1 _ => ?_)
  refine g_iloadn K 1 rfl rfl 6 dX4_ovens_5 rfl ?_
  refine g_jn (head := 28) (L := fun j2 => [(0, .ref am), (1, .int x1)]) (sf := fun j2 => []) (mf := fun j2 => μ1) (fun j2 => ?_) (fun k3 h4 => ?_)
  · try dsimp only
    refine g_iconst K (nI 0) ic_0 29 dX4_ovens_28 rfl ?_
    refine g_istoren K [(0, .ref am), (1, .int x1), (2, .int (nI 0))] [1, 2, 0] rfl (by decide) rfl 30 dX4_ovens_29 rfl ?_
    refine g_jn (head := 51) (L := fun j5 => [(0, .ref am), (1, .int x1)]) (sf := fun j5 => []) (mf := fun j5 => j5) (fun j5 => ?_) (fun k6 h7 => ?_)
    · try dsimp only
      refine g_ldcw K q2073 54 dX4_ovens_51 rfl ?_
      refine g_istoren K [(0, .ref am), (1, .int x1), (2, .int (100000000 : Int32))] [1, 2, 0] rfl (by decide) rfl 55 dX4_ovens_54 rfl ?_
      refine g_iconst K (nI 1) ic_1 56 dX4_ovens_55 rfl ?_
      refine g_istoren K [(0, .ref am), (1, .int x1), (2, .int (100000000 : Int32)), (3, .int (nI 1))] [1, 2, 3, 0] rfl (by decide) rfl 57 dX4_ovens_56 rfl ?_
      refine g_jn (head := 121) (L := fun j8 => [(0, .ref am), (1, .int x1), (2, .int j8.1)]) (sf := fun j8 => []) (mf := fun j8 => j8.2) (fun j8 => ?_) (fun k9 h10 => ?_)
      · try dsimp only
        refine g_iloadn K 1 rfl rfl 122 dX4_ovens_121 rfl ?_
        refine g_if_ne K 125 129 dX4_ovens_122 rfl (by decide) (fun _ => ?_) (fun _ => ?_)
        · refine g_iloadn K 2 rfl rfl 126 dX4_ovens_125 rfl ?_
          refine g_goto K 138 dX4_ovens_126 (by decide) ?_
          exact gm_iret K hK hcl hr hlk dX4_ovens_138 rfl
        · refine g_aloadn K 0 rfl rfl 130 dX4_ovens_129 rfl ?_
          refine gm_get K hK hcl 61 133 (by decide) q1546 rfl dX4_ovens_130 rfl ?_
          refine g_iloadn K 1 rfl rfl 134 dX4_ovens_133 rfl ?_
          refine g_bipush K (nI 10) bp_10 136 dX4_ovens_134 rfl ?_
          refine g_isub K 137 dX4_ovens_136 rfl ?_
          refine gm_ald K hK hcl 61 36 6 138 rfl dX4_ovens_137 rfl (fun v11 _ => ?_)
          exact gm_iret K hK hcl hr hlk dX4_ovens_138 rfl
      · refine g_lp (head := 57) (L := fun j12 => [(0, .ref am), (1, .int x1), (2, .int j12.1), (3, .int j12.2.1)]) (sf := fun j12 => []) (mf := fun j12 => j12.2.2) (fun again13 h14 j12 => ?_) fuel ((100000000 : Int32), (nI 1), j5)
        try dsimp only
        refine g_iloadn K 3 rfl rfl 58 dX4_ovens_57 rfl ?_
        refine g_if_eq K 61 121 dX4_ovens_58 rfl (by decide) (fun _ => ?_) (fun _ => ?_)
        · refine g_sub (ls' := [(0, .ref am), (1, .int x1), (2, .int j12.1)]) [0, 1, 2] rfl ?_
          exact h10 (j12.1, j12.2.2)
        · refine g_aloadn K 0 rfl rfl 62 dX4_ovens_61 rfl ?_
          refine gm_call K hK hcl 65 (ct_doneBy j12.2.2) (lw_V q2166 q2168 qs138 q158 q2169) wd_doneBy (by decide) rfl (Nat.le_of_ble_eq_true rfl) dX4_ovens_62 rfl (fun r15 _ => ?_)
          refine g_istore K [(0, .ref am), (1, .int x1), (2, .int j12.1), (4, .int r15)] [1, 2, 3, 0] (by decide) rfl 67 dX4_ovens_65 rfl ?_
          refine g_iconst K (nI 0) ic_0 68 dX4_ovens_67 rfl ?_
          refine g_istore K [(0, .ref am), (1, .int x1), (2, .int j12.1), (4, .int r15), (5, .int (nI 0))] [1, 2, 3, 4, 0] (by decide) rfl 70 dX4_ovens_68 rfl ?_
          refine g_jn (head := 105) (L := fun j16 => [(0, .ref am), (1, .int x1), (2, .int j12.1), (4, .int r15)]) (sf := fun j16 => []) (mf := fun j16 => j16) (fun j16 => ?_) (fun k17 h18 => ?_)
          · try dsimp only
            refine g_aloadn K 0 rfl rfl 106 dX4_ovens_105 rfl ?_
            refine g_iloadn K 2 rfl rfl 107 dX4_ovens_106 rfl ?_
            refine g_iload K 3 rfl 109 dX4_ovens_107 rfl ?_
            refine gm_call K hK hcl 112 (ct_lesser j16 j12.1 r15) (lw_V q2025 q2027 qs123 q158 q2028) wd_lesser (by decide) rfl (Nat.le_of_ble_eq_true rfl) dX4_ovens_109 rfl (fun r19 _ => ?_)
            refine g_istoren K [(0, .ref am), (1, .int x1), (2, .int r19)] [1, 2, 0] rfl (by decide) rfl 113 dX4_ovens_112 rfl ?_
            refine g_aloadn K 0 rfl rfl 114 dX4_ovens_113 rfl ?_
            refine gm_call K hK hcl 117 (ct_goesToNextOrder j16) (lw_V q2170 q2172 qs139 q158 q2173) wd_goesToNextOrder (by decide) rfl (Nat.le_of_ble_eq_true rfl) dX4_ovens_114 rfl (fun r20 _ => ?_)
            refine g_istoren K [(0, .ref am), (1, .int x1), (2, .int r19), (3, .int (bI r20.1))] [1, 2, 3, 0] rfl (by decide) rfl 118 dX4_ovens_117 rfl ?_
            refine g_goto K 57 dX4_ovens_118 (by decide) ?_
            exact h14 (r19, (bI r20.1), r20.2)
          · refine g_lp (head := 70) (L := fun j21 => [(0, .ref am), (1, .int x1), (2, .int j12.1), (4, .int r15), (5, .int j21.1)]) (sf := fun j21 => []) (mf := fun j21 => j21.2) (fun again22 h23 j21 => ?_) fuel ((nI 0), j12.2.2)
            try dsimp only
            refine g_iload K 4 rfl 72 dX4_ovens_70 rfl ?_
            refine g_aloadn K 0 rfl rfl 73 dX4_ovens_72 rfl ?_
            refine gm_get K hK hcl 57 76 (by decide) q1542 rfl dX4_ovens_73 rfl ?_
            refine g_icmp_ge K 79 105 dX4_ovens_76 rfl (by decide) (fun _ => ?_) (fun _ => ?_)
            · refine g_sub (ls' := [(0, .ref am), (1, .int x1), (2, .int j12.1), (4, .int r15)]) [0, 1, 2, 3] rfl ?_
              exact h18 j21.2
            · refine g_iload K 3 rfl 81 dX4_ovens_79 rfl ?_
              refine g_iloadn K 2 rfl rfl 82 dX4_ovens_81 rfl ?_
              refine g_icmp_ge K 85 105 dX4_ovens_82 rfl (by decide) (fun _ => ?_) (fun _ => ?_)
              · refine g_sub (ls' := [(0, .ref am), (1, .int x1), (2, .int j12.1), (4, .int r15)]) [0, 1, 2, 3] rfl ?_
                exact h18 j21.2
              · refine g_aloadn K 0 rfl rfl 86 dX4_ovens_85 rfl ?_
                refine gm_get K hK hcl 61 89 (by decide) q1546 rfl dX4_ovens_86 rfl ?_
                refine g_iload K 4 rfl 91 dX4_ovens_89 rfl ?_
                refine g_aloadn K 0 rfl rfl 92 dX4_ovens_91 rfl ?_
                refine gm_get K hK hcl 60 95 (by decide) q1545 rfl dX4_ovens_92 rfl ?_
                refine g_iload K 4 rfl 97 dX4_ovens_95 rfl ?_
                refine gm_ald K hK hcl 60 35 6 98 rfl dX4_ovens_97 rfl (fun v24 _ => ?_)
                refine gm_ast K hK hcl 61 36 6 99 rfl (fun _ => rfl) dX4_ovens_98 rfl (fun μ25 _ => ?_)
                refine g_iinc K (j21.1 + (nI 1)) 4 [(0, .ref am), (1, .int x1), (2, .int j12.1), (4, .int r15), (5, .int (j21.1 + (nI 1)))] [1, 2, 3, 4, 0] rfl (by rw [ic_1]) (by decide) rfl 102 dX4_ovens_99 rfl ?_
                refine g_goto K 70 dX4_ovens_102 (by decide) ?_
                exact h23 ((j21.1 + (nI 1)), μ25)
    · refine g_lp (head := 30) (L := fun j26 => [(0, .ref am), (1, .int x1), (2, .int j26.1)]) (sf := fun j26 => []) (mf := fun j26 => j26.2) (fun again27 h28 j26 => ?_) fuel ((nI 0), μ1)
      try dsimp only
      refine g_iloadn K 2 rfl rfl 31 dX4_ovens_30 rfl ?_
      refine g_aloadn K 0 rfl rfl 32 dX4_ovens_31 rfl ?_
      refine gm_get K hK hcl 57 35 (by decide) q1542 rfl dX4_ovens_32 rfl ?_
      refine g_icmp_ge K 38 51 dX4_ovens_35 rfl (by decide) (fun _ => ?_) (fun _ => ?_)
      · refine g_sub (ls' := [(0, .ref am), (1, .int x1)]) [0, 1] rfl ?_
        exact h7 j26.2
      · refine g_aloadn K 0 rfl rfl 39 dX4_ovens_38 rfl ?_
        refine gm_get K hK hcl 60 42 (by decide) q1545 rfl dX4_ovens_39 rfl ?_
        refine g_iloadn K 2 rfl rfl 43 dX4_ovens_42 rfl ?_
        refine g_iloadn K 2 rfl rfl 44 dX4_ovens_43 rfl ?_
        refine gm_ast K hK hcl 60 35 6 45 rfl (fun _ => rfl) dX4_ovens_44 rfl (fun μ29 _ => ?_)
        refine g_iinc K (j26.1 + (nI 1)) 2 [(0, .ref am), (1, .int x1), (2, .int (j26.1 + (nI 1)))] [1, 2, 0] rfl (by rw [ic_1]) (by decide) rfl 48 dX4_ovens_45 rfl ?_
        refine g_goto K 30 dX4_ovens_48 (by decide) ?_
        exact h28 ((j26.1 + (nI 1)), μ29)
  · refine g_if_eq K 9 28 dX4_ovens_6 rfl (by decide) (fun _ => ?_) (fun _ => ?_)
    · exact h4 ()
    · refine g_aloadn K 0 rfl rfl 10 dX4_ovens_9 rfl ?_
      refine g_iloadn K 1 rfl rfl 11 dX4_ovens_10 rfl ?_
      refine g_bipush K (nI 10) bp_10 13 dX4_ovens_11 rfl ?_
      refine g_bipush K (nI 9) bp_9 15 dX4_ovens_13 rfl ?_
      refine g_aloadn K 0 rfl rfl 16 dX4_ovens_15 rfl ?_
      refine gm_get K hK hcl 57 19 (by decide) q1542 rfl dX4_ovens_16 rfl ?_
      refine g_iadd K 20 dX4_ovens_19 rfl ?_
      refine gm_call K hK hcl 23 (ct_isIn μ1 x1 (nI 10) ((nI 9) + (μ1 57 0))) (lw_V q1723 q1725 qs55 q158 q1726) wd_isIn (by decide) rfl (Nat.le_of_ble_eq_true rfl) dX4_ovens_20 rfl (fun r30 _ => ?_)
      refine g_if_ne K 26 28 dX4_ovens_23 rfl (by decide) (fun _ => ?_) (fun _ => ?_)
      · refine g_iconst K (-1 : Int32) ic_m1 27 dX4_ovens_26 rfl ?_
        exact gm_iret K hK hcl hr hlk dX4_ovens_27 rfl
      · exact h4 ()
/-- areAlone(I)Z -/
def m_areAlone (μ : Mem) (x1 : Int32) : Option (Bool) :=
  lp (fun again2 (j1 : Int32) =>
  if (μ 6 0) ≤ j1 then
  some true
  else
  (m_has μ x1 j1).bind fun r4 =>
  if (bI r4) = 0 then
  again2 (j1 + (nI 1))
  else
  (rd μ 38 24 j1).bind fun v5 =>
  if (v5 &&& x1) = 0 then
  again2 (j1 + (nI 1))
  else
  some false) fuel (nI 0)
theorem wd_areAlone : yX4_areAlone.cls = RX4 ∧ yX4_areAlone.cls ≠ "java/lang/invoke/MethodHandle" ∧ yX4_areAlone.cls ≠ "java/lang/invoke/VarHandle" ∧ (parseMethodDescriptor yX4_areAlone.desc).map (fun d => d.parameters.length) = some 1 := by decide +kernel
set_option maxRecDepth 100000 in
theorem ct_areAlone (μ : Mem) (x1 : Int32) : CtM yX4_areAlone cX4_areAlone 3 (some .boolean) 1 22 [.int x1] μ (fun r => (some (.int (bI r)), μ)) (m_areAlone μ x1) := by
  refine CtM.of (by decide) rfl (fun _ => Nat.le_of_ble_eq_true rfl) ?_
  intro l D cl ci cA am p e s m args below meth c hcl K hr hlk hK
  refine g_sub (ls' := [(0, .ref am), (1, .int x1)]) [0, 1] rfl ?_
  unfold m_areAlone
  refine g_iconst K (nI 0) ic_0 1 dX4_areAlone_0 rfl ?_
  refine g_istoren K [(0, .ref am), (1, .int x1), (2, .int (nI 0))] [1, 2, 0] rfl (by decide) rfl 2 dX4_areAlone_1 rfl ?_
  refine g_lp (head := 2) (L := fun j1 => [(0, .ref am), (1, .int x1), (2, .int j1)]) (sf := fun j1 => []) (mf := fun j1 => μ) (fun again2 h3 j1 => ?_) fuel (nI 0)
  try dsimp only
  refine g_iloadn K 2 rfl rfl 3 dX4_areAlone_2 rfl ?_
  refine g_aloadn K 0 rfl rfl 4 dX4_areAlone_3 rfl ?_
  refine gm_get K hK hcl 6 7 (by decide) q1491 rfl dX4_areAlone_4 rfl ?_
  refine g_icmp_ge K 10 38 dX4_areAlone_7 rfl (by decide) (fun _ => ?_) (fun _ => ?_)
  · refine g_iconst K (nI 1) ic_1 39 dX4_areAlone_38 rfl ?_
    exact gm_zret K hK hcl hr hlk (b := true) dX4_areAlone_39 rfl rfl
  · refine g_aloadn K 0 rfl rfl 11 dX4_areAlone_10 rfl ?_
    refine g_iloadn K 1 rfl rfl 12 dX4_areAlone_11 rfl ?_
    refine g_iloadn K 2 rfl rfl 13 dX4_areAlone_12 rfl ?_
    refine gm_call K hK hcl 16 (ct_has μ x1 j1) (lw_V q1931 q1933 qs101 q158 q1934) wd_has (by decide) rfl (Nat.le_of_ble_eq_true rfl) dX4_areAlone_13 rfl (fun r4 _ => ?_)
    refine g_if_eq K 19 32 dX4_areAlone_16 rfl (by decide) (fun _ => ?_) (fun _ => ?_)
    · refine g_iinc K (j1 + (nI 1)) 2 [(0, .ref am), (1, .int x1), (2, .int (j1 + (nI 1)))] [1, 2, 0] rfl (by rw [ic_1]) (by decide) rfl 35 dX4_areAlone_32 rfl ?_
      refine g_goto K 2 dX4_areAlone_35 (by decide) ?_
      exact h3 (j1 + (nI 1))
    · refine g_aloadn K 0 rfl rfl 20 dX4_areAlone_19 rfl ?_
      refine gm_get K hK hcl 38 23 (by decide) q1523 rfl dX4_areAlone_20 rfl ?_
      refine g_iloadn K 2 rfl rfl 24 dX4_areAlone_23 rfl ?_
      refine gm_ald K hK hcl 38 19 24 25 rfl dX4_areAlone_24 rfl (fun v5 _ => ?_)
      refine g_iloadn K 1 rfl rfl 26 dX4_areAlone_25 rfl ?_
      refine g_iand K 27 dX4_areAlone_26 rfl ?_
      refine g_if_eq K 30 32 dX4_areAlone_27 rfl (by decide) (fun _ => ?_) (fun _ => ?_)
      · refine g_iinc K (j1 + (nI 1)) 2 [(0, .ref am), (1, .int x1), (2, .int (j1 + (nI 1)))] [1, 2, 0] rfl (by rw [ic_1]) (by decide) rfl 35 dX4_areAlone_32 rfl ?_
        refine g_goto K 2 dX4_areAlone_35 (by decide) ?_
        exact h3 (j1 + (nI 1))
      · refine g_iconst K (nI 0) ic_0 31 dX4_areAlone_30 rfl ?_
        exact gm_zret K hK hcl hr hlk (b := false) dX4_areAlone_31 rfl rfl
/-- alone(I)I -/
def m_alone (μ : Mem) (x1 : Int32) : Option (Int32 × Mem) :=
  nm (up2 μ 0 0 (nI 0)) fun μ1 =>
  (m_isIn μ1 x1 (nI 0) (nI 1)).bind fun r2 =>
  if (bI r2) = 0 then
  some ((-1 : Int32), μ1)
  else
  (m_standingSet μ1).bind fun r3 =>
  jn (fun (j4 : Int32) =>
  if x1 = 0 then
  (m_onesOf μ1 j4).bind fun r7 =>
  some (r7, μ1)
  else
  some (j4, μ1)) (fun k5 =>
  lp (fun again9 (j8 : Int32 × Int32) =>
  if r3 < j8.2 then
  k5 j8.1
  else
  if (j8.2 &&& (r3 ^^^ (-1 : Int32))) = 0 then
  (m_onesOf μ1 j8.2).bind fun r11 =>
  (m_onesOf μ1 j8.1).bind fun r12 =>
  if r11 ≤ r12 then
  again9 (j8.1, (j8.2 + (nI 1)))
  else
  (m_areAlone μ1 j8.2).bind fun r13 =>
  if (bI r13) = 0 then
  again9 (j8.1, (j8.2 + (nI 1)))
  else
  again9 (j8.2, (j8.2 + (nI 1)))
  else
  again9 (j8.1, (j8.2 + (nI 1)))) fuel ((nI 0), (nI 1)))
theorem wd_alone : yX4_alone.cls = RX4 ∧ yX4_alone.cls ≠ "java/lang/invoke/MethodHandle" ∧ yX4_alone.cls ≠ "java/lang/invoke/VarHandle" ∧ (parseMethodDescriptor yX4_alone.desc).map (fun d => d.parameters.length) = some 1 := by decide +kernel
set_option maxRecDepth 100000 in
theorem ct_alone (μ : Mem) (x1 : Int32) : CtM yX4_alone cX4_alone 5 (some .int) 4 86 [.int x1] μ (fun r => (some (.int r.1), r.2)) (m_alone μ x1) := by
  refine CtM.of (by decide) rfl (fun _ => Nat.le_of_ble_eq_true rfl) ?_
  intro l D cl ci cA am p e s m args below meth c hcl K hr hlk hK
  refine g_sub (ls' := [(0, .ref am), (1, .int x1)]) [0, 1] rfl ?_
  unfold m_alone
  refine g_aloadn K 0 rfl rfl 1 dX4_alone_0 rfl ?_
  refine g_iconst K (nI 0) ic_0 2 dX4_alone_1 rfl ?_
  refine gm_put K hK hcl 0 (ty := .int) 5 (by decide) q1485 rfl (by decide +kernel) rfl rfl rfl dX4_alone_2 rfl (fun μ1 _ => ?_)
  refine g_aloadn K 0 rfl rfl 6 dX4_alone_5 rfl ?_
  refine g_iloadn K 1 rfl rfl 7 dX4_alone_6 rfl ?_
  refine g_iconst K (nI 0) ic_0 8 dX4_alone_7 rfl ?_
  refine g_iconst K (nI 1) ic_1 9 dX4_alone_8 rfl ?_
  refine gm_call K hK hcl 12 (ct_isIn μ1 x1 (nI 0) (nI 1)) (lw_V q1723 q1725 qs55 q158 q1726) wd_isIn (by decide) rfl (Nat.le_of_ble_eq_true rfl) dX4_alone_9 rfl (fun r2 _ => ?_)
  refine g_if_ne K 15 17 dX4_alone_12 rfl (by decide) (fun _ => ?_) (fun _ => ?_)
  · refine g_iconst K (-1 : Int32) ic_m1 16 dX4_alone_15 rfl ?_
    exact gm_iret K hK hcl hr hlk dX4_alone_16 rfl
  · refine g_aloadn K 0 rfl rfl 18 dX4_alone_17 rfl ?_
    refine gm_call K hK hcl 21 (ct_standingSet μ1) (lw_V q1971 q1973 qs110 q158 q1974) wd_standingSet (by decide) rfl (Nat.le_of_ble_eq_true rfl) dX4_alone_18 rfl (fun r3 _ => ?_)
    refine g_istoren K [(0, .ref am), (1, .int x1), (2, .int r3)] [1, 2, 0] rfl (by decide) rfl 22 dX4_alone_21 rfl ?_
    refine g_iconst K (nI 0) ic_0 23 dX4_alone_22 rfl ?_
    refine g_istoren K [(0, .ref am), (1, .int x1), (2, .int r3), (3, .int (nI 0))] [1, 2, 3, 0] rfl (by decide) rfl 24 dX4_alone_23 rfl ?_
    refine g_iconst K (nI 1) ic_1 25 dX4_alone_24 rfl ?_
    refine g_istore K [(0, .ref am), (1, .int x1), (2, .int r3), (3, .int (nI 0)), (4, .int (nI 1))] [1, 2, 3, 4, 0] (by decide) rfl 27 dX4_alone_25 rfl ?_
    refine g_jn (head := 74) (L := fun j4 => [(0, .ref am), (1, .int x1), (3, .int j4)]) (sf := fun j4 => []) (mf := fun j4 => μ1) (fun j4 => ?_) (fun k5 h6 => ?_)
    · try dsimp only
      refine g_iloadn K 1 rfl rfl 75 dX4_alone_74 rfl ?_
      refine g_if_ne K 78 86 dX4_alone_75 rfl (by decide) (fun _ => ?_) (fun _ => ?_)
      · refine g_aloadn K 0 rfl rfl 79 dX4_alone_78 rfl ?_
        refine g_iloadn K 2 rfl rfl 80 dX4_alone_79 rfl ?_
        refine gm_call K hK hcl 83 (ct_onesOf μ1 j4) (lw_V q2029 q2031 qs124 q158 q2032) wd_onesOf (by decide) rfl (Nat.le_of_ble_eq_true rfl) dX4_alone_80 rfl (fun r7 _ => ?_)
        refine g_goto K 87 dX4_alone_83 (by decide) ?_
        exact gm_iret K hK hcl hr hlk dX4_alone_87 rfl
      · refine g_iloadn K 2 rfl rfl 87 dX4_alone_86 rfl ?_
        exact gm_iret K hK hcl hr hlk dX4_alone_87 rfl
    · refine g_lp (head := 27) (L := fun j8 => [(0, .ref am), (1, .int x1), (2, .int r3), (3, .int j8.1), (4, .int j8.2)]) (sf := fun j8 => []) (mf := fun j8 => μ1) (fun again9 h10 j8 => ?_) fuel ((nI 0), (nI 1))
      try dsimp only
      refine g_iload K 4 rfl 29 dX4_alone_27 rfl ?_
      refine g_iloadn K 2 rfl rfl 30 dX4_alone_29 rfl ?_
      refine g_icmp_gt K 33 74 dX4_alone_30 rfl (by decide) (fun _ => ?_) (fun _ => ?_)
      · refine g_sub (ls' := [(0, .ref am), (1, .int x1), (3, .int j8.1)]) [0, 1, 3] rfl ?_
        exact h6 j8.1
      · refine g_iload K 4 rfl 35 dX4_alone_33 rfl ?_
        refine g_iloadn K 2 rfl rfl 36 dX4_alone_35 rfl ?_
        refine g_iconst K (-1 : Int32) ic_m1 37 dX4_alone_36 rfl ?_
        refine g_ixor K 38 dX4_alone_37 rfl ?_
        refine g_iand K 39 dX4_alone_38 rfl ?_
        refine g_if_ne K 42 68 dX4_alone_39 rfl (by decide) (fun _ => ?_) (fun _ => ?_)
        · refine g_aloadn K 0 rfl rfl 43 dX4_alone_42 rfl ?_
          refine g_iload K 4 rfl 45 dX4_alone_43 rfl ?_
          refine gm_call K hK hcl 48 (ct_onesOf μ1 j8.2) (lw_V q2029 q2031 qs124 q158 q2032) wd_onesOf (by decide) rfl (Nat.le_of_ble_eq_true rfl) dX4_alone_45 rfl (fun r11 _ => ?_)
          refine g_aloadn K 0 rfl rfl 49 dX4_alone_48 rfl ?_
          refine g_iloadn K 3 rfl rfl 50 dX4_alone_49 rfl ?_
          refine gm_call K hK hcl 53 (ct_onesOf μ1 j8.1) (lw_V q2029 q2031 qs124 q158 q2032) wd_onesOf (by decide) rfl (Nat.le_of_ble_eq_true rfl) dX4_alone_50 rfl (fun r12 _ => ?_)
          refine g_icmp_le K 56 68 dX4_alone_53 rfl (by decide) (fun _ => ?_) (fun _ => ?_)
          · refine g_iinc K (j8.2 + (nI 1)) 4 [(0, .ref am), (1, .int x1), (2, .int r3), (3, .int j8.1), (4, .int (j8.2 + (nI 1)))] [1, 2, 3, 4, 0] rfl (by rw [ic_1]) (by decide) rfl 71 dX4_alone_68 rfl ?_
            refine g_goto K 27 dX4_alone_71 (by decide) ?_
            exact h10 (j8.1, (j8.2 + (nI 1)))
          · refine g_aloadn K 0 rfl rfl 57 dX4_alone_56 rfl ?_
            refine g_iload K 4 rfl 59 dX4_alone_57 rfl ?_
            refine gm_call K hK hcl 62 (ct_areAlone μ1 j8.2) (lw_V q2178 q2180 qs140 q158 q2181) wd_areAlone (by decide) rfl (Nat.le_of_ble_eq_true rfl) dX4_alone_59 rfl (fun r13 _ => ?_)
            refine g_if_eq K 65 68 dX4_alone_62 rfl (by decide) (fun _ => ?_) (fun _ => ?_)
            · refine g_iinc K (j8.2 + (nI 1)) 4 [(0, .ref am), (1, .int x1), (2, .int r3), (3, .int j8.1), (4, .int (j8.2 + (nI 1)))] [1, 2, 3, 4, 0] rfl (by rw [ic_1]) (by decide) rfl 71 dX4_alone_68 rfl ?_
              refine g_goto K 27 dX4_alone_71 (by decide) ?_
              exact h10 (j8.1, (j8.2 + (nI 1)))
            · refine g_iload K 4 rfl 67 dX4_alone_65 rfl ?_
              refine g_istoren K [(0, .ref am), (1, .int x1), (2, .int r3), (3, .int j8.2), (4, .int j8.2)] [1, 2, 3, 0, 4] rfl (by decide) rfl 68 dX4_alone_67 rfl ?_
              refine g_iinc K (j8.2 + (nI 1)) 4 [(0, .ref am), (1, .int x1), (2, .int r3), (3, .int j8.2), (4, .int (j8.2 + (nI 1)))] [1, 2, 3, 4, 0] rfl (by rw [ic_1]) (by decide) rfl 71 dX4_alone_68 rfl ?_
              refine g_goto K 27 dX4_alone_71 (by decide) ?_
              exact h10 (j8.2, (j8.2 + (nI 1)))
        · refine g_iinc K (j8.2 + (nI 1)) 4 [(0, .ref am), (1, .int x1), (2, .int r3), (3, .int j8.1), (4, .int (j8.2 + (nI 1)))] [1, 2, 3, 4, 0] rfl (by rw [ic_1]) (by decide) rfl 71 dX4_alone_68 rfl ?_
          refine g_goto K 27 dX4_alone_71 (by decide) ?_
          exact h10 (j8.1, (j8.2 + (nI 1)))
/-- heir(II)I -/
def m_heir (μ : Mem) (x1 : Int32) (x2 : Int32) : Option (Int32 × Mem) :=
  nm (up2 μ 0 0 (nI 0)) fun μ1 =>
  if x1 = (-1 : Int32) then
  nm (up2 μ1 62 0 (nI 0)) fun μ10 =>
  lp (fun again12 (j11 : Int32 × Mem) =>
  if (nI 12) ≤ j11.1 then
  some ((nI 0), j11.2)
  else
  (wr j11.2 63 12 j11.1 (nI 0)).bind fun μ14 =>
  again12 ((j11.1 + (nI 1)), μ14)) fuel ((nI 0), μ10)
  else
  (m_isIn μ1 x1 (nI 0) (nI 11)).bind fun r2 =>
  if (bI r2) = 0 then
  some ((-1 : Int32), μ1)
  else
  (m_isIn μ1 x2 (nI 0) (nI 11)).bind fun r3 =>
  if (bI r3) = 0 then
  some ((-1 : Int32), μ1)
  else
  if x1 = x2 then
  some ((-1 : Int32), μ1)
  else
  if (μ1 62 0) = (nI 12) then
  some ((-1 : Int32), μ1)
  else
  (rd μ1 63 12 x1).bind fun v4 =>
  jn (fun (j5 : Mem) =>
  nm (up2 j5 62 0 ((j5 62 0) + (nI 1))) fun μ8 =>
  some ((μ8 62 0), μ8)) (fun k6 =>
  if v4 = 0 then
  (wr μ1 63 12 x1 (x2 + (nI 1))).bind fun μ9 =>
  k6 μ9
  else
  k6 μ1)
theorem wd_heir : yX4_heir.cls = RX4 ∧ yX4_heir.cls ≠ "java/lang/invoke/MethodHandle" ∧ yX4_heir.cls ≠ "java/lang/invoke/VarHandle" ∧ (parseMethodDescriptor yX4_heir.desc).map (fun d => d.parameters.length) = some 2 := by decide +kernel
set_option maxRecDepth 100000 in
theorem ct_heir (μ : Mem) (x1 : Int32) (x2 : Int32) : CtM yX4_heir cX4_heir 4 (some .int) 1 23 [.int x1, .int x2] μ (fun r => (some (.int r.1), r.2)) (m_heir μ x1 x2) := by
  refine CtM.of (by decide) rfl (fun _ => Nat.le_of_ble_eq_true rfl) ?_
  intro l D cl ci cA am p e s m args below meth c hcl K hr hlk hK
  refine g_sub (ls' := [(0, .ref am), (1, .int x1), (2, .int x2)]) [0, 1, 2] rfl ?_
  unfold m_heir
  refine g_aloadn K 0 rfl rfl 1 dX4_heir_0 rfl ?_
  refine g_iconst K (nI 0) ic_0 2 dX4_heir_1 rfl ?_
  refine gm_put K hK hcl 0 (ty := .int) 5 (by decide) q1485 rfl (by decide +kernel) rfl rfl rfl dX4_heir_2 rfl (fun μ1 _ => ?_)
  refine g_iloadn K 1 rfl rfl 6 dX4_heir_5 rfl ?_
  refine g_iconst K (-1 : Int32) ic_m1 7 dX4_heir_6 rfl ?_
  refine g_icmp_ne K 10 38 dX4_heir_7 rfl (by decide) (fun _ => ?_) (fun _ => ?_)
  · refine g_aloadn K 0 rfl rfl 11 dX4_heir_10 rfl ?_
    refine g_iconst K (nI 0) ic_0 12 dX4_heir_11 rfl ?_
    refine gm_put K hK hcl 62 (ty := .int) 15 (by decide) q1547 rfl (by decide +kernel) rfl rfl rfl dX4_heir_12 rfl (fun μ10 _ => ?_)
    refine g_iconst K (nI 0) ic_0 16 dX4_heir_15 rfl ?_
    refine g_istoren K [(0, .ref am), (3, .int (nI 0))] [1, 0] rfl (by decide) rfl 17 dX4_heir_16 rfl ?_
    refine g_lp (head := 17) (L := fun j11 => [(0, .ref am), (3, .int j11.1)]) (sf := fun j11 => []) (mf := fun j11 => j11.2) (fun again12 h13 j11 => ?_) fuel ((nI 0), μ10)
    try dsimp only
    refine g_iloadn K 1 rfl rfl 18 dX4_heir_17 rfl ?_
    refine g_bipush K (nI 12) bp_12 20 dX4_heir_18 rfl ?_
    refine g_icmp_ge K 23 36 dX4_heir_20 rfl (by decide) (fun _ => ?_) (fun _ => ?_)
    · refine g_iconst K (nI 0) ic_0 37 dX4_heir_36 rfl ?_
      exact gm_iret K hK hcl hr hlk dX4_heir_37 rfl
    · refine g_aloadn K 0 rfl rfl 24 dX4_heir_23 rfl ?_
      refine gm_get K hK hcl 63 27 (by decide) q1548 rfl dX4_heir_24 rfl ?_
      refine g_iloadn K 1 rfl rfl 28 dX4_heir_27 rfl ?_
      refine g_iconst K (nI 0) ic_0 29 dX4_heir_28 rfl ?_
      refine gm_ast K hK hcl 63 37 12 30 rfl (fun _ => rfl) dX4_heir_29 rfl (fun μ14 _ => ?_)
      refine g_iinc K (j11.1 + (nI 1)) 1 [(0, .ref am), (3, .int (j11.1 + (nI 1)))] [1, 0] rfl (by rw [ic_1]) (by decide) rfl 33 dX4_heir_30 rfl ?_
      refine g_goto K 17 dX4_heir_33 (by decide) ?_
      exact h13 ((j11.1 + (nI 1)), μ14)
  · refine g_aloadn K 0 rfl rfl 39 dX4_heir_38 rfl ?_
    refine g_iloadn K 1 rfl rfl 40 dX4_heir_39 rfl ?_
    refine g_iconst K (nI 0) ic_0 41 dX4_heir_40 rfl ?_
    refine g_bipush K (nI 11) bp_11 43 dX4_heir_41 rfl ?_
    refine gm_call K hK hcl 46 (ct_isIn μ1 x1 (nI 0) (nI 11)) (lw_V q1723 q1725 qs55 q158 q1726) wd_isIn (by decide) rfl (Nat.le_of_ble_eq_true rfl) dX4_heir_43 rfl (fun r2 _ => ?_)
    refine g_if_eq K 49 74 dX4_heir_46 rfl (by decide) (fun _ => ?_) (fun _ => ?_)
    · refine g_iconst K (-1 : Int32) ic_m1 75 dX4_heir_74 rfl ?_
      exact gm_iret K hK hcl hr hlk dX4_heir_75 rfl
    · refine g_aloadn K 0 rfl rfl 50 dX4_heir_49 rfl ?_
      refine g_iloadn K 2 rfl rfl 51 dX4_heir_50 rfl ?_
      refine g_iconst K (nI 0) ic_0 52 dX4_heir_51 rfl ?_
      refine g_bipush K (nI 11) bp_11 54 dX4_heir_52 rfl ?_
      refine gm_call K hK hcl 57 (ct_isIn μ1 x2 (nI 0) (nI 11)) (lw_V q1723 q1725 qs55 q158 q1726) wd_isIn (by decide) rfl (Nat.le_of_ble_eq_true rfl) dX4_heir_54 rfl (fun r3 _ => ?_)
      refine g_if_eq K 60 74 dX4_heir_57 rfl (by decide) (fun _ => ?_) (fun _ => ?_)
      · refine g_iconst K (-1 : Int32) ic_m1 75 dX4_heir_74 rfl ?_
        exact gm_iret K hK hcl hr hlk dX4_heir_75 rfl
      · refine g_iloadn K 1 rfl rfl 61 dX4_heir_60 rfl ?_
        refine g_iloadn K 2 rfl rfl 62 dX4_heir_61 rfl ?_
        refine g_icmp_eq K 65 74 dX4_heir_62 rfl (by decide) (fun _ => ?_) (fun _ => ?_)
        · refine g_iconst K (-1 : Int32) ic_m1 75 dX4_heir_74 rfl ?_
          exact gm_iret K hK hcl hr hlk dX4_heir_75 rfl
        · refine g_aloadn K 0 rfl rfl 66 dX4_heir_65 rfl ?_
          refine gm_get K hK hcl 62 69 (by decide) q1547 rfl dX4_heir_66 rfl ?_
          refine g_bipush K (nI 12) bp_12 71 dX4_heir_69 rfl ?_
          refine g_icmp_ne K 74 76 dX4_heir_71 rfl (by decide) (fun _ => ?_) (fun _ => ?_)
          · refine g_iconst K (-1 : Int32) ic_m1 75 dX4_heir_74 rfl ?_
            exact gm_iret K hK hcl hr hlk dX4_heir_75 rfl
          · refine g_aloadn K 0 rfl rfl 77 dX4_heir_76 rfl ?_
            refine gm_get K hK hcl 63 80 (by decide) q1548 rfl dX4_heir_77 rfl ?_
            refine g_iloadn K 1 rfl rfl 81 dX4_heir_80 rfl ?_
            refine gm_ald K hK hcl 63 37 12 82 rfl dX4_heir_81 rfl (fun v4 _ => ?_)
            refine g_jn (head := 94) (L := fun j5 => [(0, .ref am)]) (sf := fun j5 => []) (mf := fun j5 => j5) (fun j5 => ?_) (fun k6 h7 => ?_)
            · try dsimp only
              refine g_aloadn K 0 rfl rfl 95 dX4_heir_94 rfl ?_
              refine g_aloadn K 0 rfl rfl 96 dX4_heir_95 rfl ?_
              refine gm_get K hK hcl 62 99 (by decide) q1547 rfl dX4_heir_96 rfl ?_
              refine g_iconst K (nI 1) ic_1 100 dX4_heir_99 rfl ?_
              refine g_iadd K 101 dX4_heir_100 rfl ?_
              refine gm_put K hK hcl 62 (ty := .int) 104 (by decide) q1547 rfl (by decide +kernel) rfl rfl rfl dX4_heir_101 rfl (fun μ8 _ => ?_)
              refine g_aloadn K 0 rfl rfl 105 dX4_heir_104 rfl ?_
              refine gm_get K hK hcl 62 108 (by decide) q1547 rfl dX4_heir_105 rfl ?_
              exact gm_iret K hK hcl hr hlk dX4_heir_108 rfl
            · refine g_if_ne K 85 94 dX4_heir_82 rfl (by decide) (fun _ => ?_) (fun _ => ?_)
              · refine g_aloadn K 0 rfl rfl 86 dX4_heir_85 rfl ?_
                refine gm_get K hK hcl 63 89 (by decide) q1548 rfl dX4_heir_86 rfl ?_
                refine g_iloadn K 1 rfl rfl 90 dX4_heir_89 rfl ?_
                refine g_iloadn K 2 rfl rfl 91 dX4_heir_90 rfl ?_
                refine g_iconst K (nI 1) ic_1 92 dX4_heir_91 rfl ?_
                refine g_iadd K 93 dX4_heir_92 rfl ?_
                refine gm_ast K hK hcl 63 37 12 94 rfl (fun _ => rfl) dX4_heir_93 rfl (fun μ9 _ => ?_)
                refine g_sub (ls' := [(0, .ref am)]) [0] rfl ?_
                exact h7 μ9
              · refine g_sub (ls' := [(0, .ref am)]) [0] rfl ?_
                exact h7 μ1
/-- line(II)I -/
def m_line (μ : Mem) (x1 : Int32) (x2 : Int32) : Option (Int32 × Mem) :=
  nm (up2 μ 0 0 (nI 0)) fun μ1 =>
  (m_isIn μ1 x1 (nI 0) (nI 11)).bind fun r2 =>
  if (bI r2) = 0 then
  some ((-1 : Int32), μ1)
  else
  (m_isIn μ1 x2 (nI 0) (nI 1)).bind fun r3 =>
  if (bI r3) = 0 then
  some ((-1 : Int32), μ1)
  else
  jn (fun (j4 : Int32 × Int32) =>
  if x2 = 0 then
  some (j4.2, μ1)
  else
  some (j4.1, μ1)) (fun k5 =>
  lp (fun again8 (j7 : Int32 × Int32) =>
  if (nI 12) ≤ j7.2 then
  some ((-1 : Int32), μ1)
  else
  (rd μ1 63 12 j7.1).bind fun v10 =>
  if v10 = 0 then
  k5 (j7.1, j7.2)
  else
  (rd μ1 63 12 j7.1).bind fun v11 =>
  nm (v11 - (nI 1)) fun v12 =>
  again8 (v12, (j7.2 + (nI 1)))) fuel (x1, (nI 0)))
theorem wd_line : yX4_line.cls = RX4 ∧ yX4_line.cls ≠ "java/lang/invoke/MethodHandle" ∧ yX4_line.cls ≠ "java/lang/invoke/VarHandle" ∧ (parseMethodDescriptor yX4_line.desc).map (fun d => d.parameters.length) = some 2 := by decide +kernel
set_option maxRecDepth 100000 in
theorem ct_line (μ : Mem) (x1 : Int32) (x2 : Int32) : CtM yX4_line cX4_line 5 (some .int) 1 23 [.int x1, .int x2] μ (fun r => (some (.int r.1), r.2)) (m_line μ x1 x2) := by
  refine CtM.of (by decide) rfl (fun _ => Nat.le_of_ble_eq_true rfl) ?_
  intro l D cl ci cA am p e s m args below meth c hcl K hr hlk hK
  refine g_sub (ls' := [(0, .ref am), (1, .int x1), (2, .int x2)]) [0, 1, 2] rfl ?_
  unfold m_line
  refine g_aloadn K 0 rfl rfl 1 dX4_line_0 rfl ?_
  refine g_iconst K (nI 0) ic_0 2 dX4_line_1 rfl ?_
  refine gm_put K hK hcl 0 (ty := .int) 5 (by decide) q1485 rfl (by decide +kernel) rfl rfl rfl dX4_line_2 rfl (fun μ1 _ => ?_)
  refine g_aloadn K 0 rfl rfl 6 dX4_line_5 rfl ?_
  refine g_iloadn K 1 rfl rfl 7 dX4_line_6 rfl ?_
  refine g_iconst K (nI 0) ic_0 8 dX4_line_7 rfl ?_
  refine g_bipush K (nI 11) bp_11 10 dX4_line_8 rfl ?_
  refine gm_call K hK hcl 13 (ct_isIn μ1 x1 (nI 0) (nI 11)) (lw_V q1723 q1725 qs55 q158 q1726) wd_isIn (by decide) rfl (Nat.le_of_ble_eq_true rfl) dX4_line_10 rfl (fun r2 _ => ?_)
  refine g_if_eq K 16 26 dX4_line_13 rfl (by decide) (fun _ => ?_) (fun _ => ?_)
  · refine g_iconst K (-1 : Int32) ic_m1 27 dX4_line_26 rfl ?_
    exact gm_iret K hK hcl hr hlk dX4_line_27 rfl
  · refine g_aloadn K 0 rfl rfl 17 dX4_line_16 rfl ?_
    refine g_iloadn K 2 rfl rfl 18 dX4_line_17 rfl ?_
    refine g_iconst K (nI 0) ic_0 19 dX4_line_18 rfl ?_
    refine g_iconst K (nI 1) ic_1 20 dX4_line_19 rfl ?_
    refine gm_call K hK hcl 23 (ct_isIn μ1 x2 (nI 0) (nI 1)) (lw_V q1723 q1725 qs55 q158 q1726) wd_isIn (by decide) rfl (Nat.le_of_ble_eq_true rfl) dX4_line_20 rfl (fun r3 _ => ?_)
    refine g_if_ne K 26 28 dX4_line_23 rfl (by decide) (fun _ => ?_) (fun _ => ?_)
    · refine g_iconst K (-1 : Int32) ic_m1 27 dX4_line_26 rfl ?_
      exact gm_iret K hK hcl hr hlk dX4_line_27 rfl
    · refine g_iloadn K 1 rfl rfl 29 dX4_line_28 rfl ?_
      refine g_istoren K [(0, .ref am), (2, .int x2), (3, .int x1)] [1, 3, 0] rfl (by decide) rfl 30 dX4_line_29 rfl ?_
      refine g_iconst K (nI 0) ic_0 31 dX4_line_30 rfl ?_
      refine g_istore K [(0, .ref am), (2, .int x2), (3, .int x1), (4, .int (nI 0))] [1, 2, 3, 0] (by decide) rfl 33 dX4_line_31 rfl ?_
      refine g_jn (head := 49) (L := fun j4 => [(0, .ref am), (2, .int x2), (3, .int j4.1), (4, .int j4.2)]) (sf := fun j4 => []) (mf := fun j4 => μ1) (fun j4 => ?_) (fun k5 h6 => ?_)
      · try dsimp only
        refine g_iloadn K 1 rfl rfl 50 dX4_line_49 rfl ?_
        refine g_if_ne K 53 58 dX4_line_50 rfl (by decide) (fun _ => ?_) (fun _ => ?_)
        · refine g_iload K 3 rfl 55 dX4_line_53 rfl ?_
          refine g_goto K 59 dX4_line_55 (by decide) ?_
          exact gm_iret K hK hcl hr hlk dX4_line_59 rfl
        · refine g_iloadn K 2 rfl rfl 59 dX4_line_58 rfl ?_
          exact gm_iret K hK hcl hr hlk dX4_line_59 rfl
      · refine g_lp (head := 33) (L := fun j7 => [(0, .ref am), (2, .int x2), (3, .int j7.1), (4, .int j7.2)]) (sf := fun j7 => []) (mf := fun j7 => μ1) (fun again8 h9 j7 => ?_) fuel (x1, (nI 0))
        try dsimp only
        refine g_iload K 3 rfl 35 dX4_line_33 rfl ?_
        refine g_bipush K (nI 12) bp_12 37 dX4_line_35 rfl ?_
        refine g_icmp_ge K 40 75 dX4_line_37 rfl (by decide) (fun _ => ?_) (fun _ => ?_)
        · refine g_iconst K (-1 : Int32) ic_m1 76 dX4_line_75 rfl ?_
          exact gm_iret K hK hcl hr hlk dX4_line_76 rfl
        · refine g_aloadn K 0 rfl rfl 41 dX4_line_40 rfl ?_
          refine gm_get K hK hcl 63 44 (by decide) q1548 rfl dX4_line_41 rfl ?_
          refine g_iloadn K 2 rfl rfl 45 dX4_line_44 rfl ?_
          refine gm_ald K hK hcl 63 37 12 46 rfl dX4_line_45 rfl (fun v10 _ => ?_)
          refine g_if_ne K 49 60 dX4_line_46 rfl (by decide) (fun _ => ?_) (fun _ => ?_)
          · exact h6 (j7.1, j7.2)
          · refine g_aloadn K 0 rfl rfl 61 dX4_line_60 rfl ?_
            refine gm_get K hK hcl 63 64 (by decide) q1548 rfl dX4_line_61 rfl ?_
            refine g_iloadn K 2 rfl rfl 65 dX4_line_64 rfl ?_
            refine gm_ald K hK hcl 63 37 12 66 rfl dX4_line_65 rfl (fun v11 _ => ?_)
            refine g_iconst K (nI 1) ic_1 67 dX4_line_66 rfl ?_
            refine g_isub K 68 dX4_line_67 rfl ?_
            refine g_nm (fun v12 _ => ?_)
            refine g_istoren K [(0, .ref am), (2, .int x2), (3, .int v12), (4, .int j7.2)] [1, 2, 0, 3] rfl (by decide) rfl 69 dX4_line_68 rfl ?_
            refine g_iinc K (j7.2 + (nI 1)) 3 [(0, .ref am), (2, .int x2), (3, .int v12), (4, .int (j7.2 + (nI 1)))] [1, 2, 3, 0] rfl (by rw [ic_1]) (by decide) rfl 72 dX4_line_69 rfl ?_
            refine g_goto K 33 dX4_line_72 (by decide) ?_
            exact h9 (v12, (j7.2 + (nI 1)))
/-- window(I)I -/
def m_window (μ : Mem) (x1 : Int32) : Option (Int32 × Mem) :=
  nm (up2 μ 0 0 (nI 0)) fun μ1 =>
  (m_isIn μ1 x1 (nI 1) (nI 20)).bind fun r2 =>
  if (bI r2) = 0 then
  some ((-1 : Int32), μ1)
  else
  jn (fun (j3 : Mem) =>
  (rd j3 64 21 x1).bind fun v6 =>
  (rd j3 65 21 x1).bind fun v7 =>
  some ((v6 + v7), j3)) (fun k4 =>
  lp (fun again9 (j8 : Int32 × Mem) =>
  if x1 < j8.1 then
  k4 j8.2
  else
  jn (fun (j11 : Int32) =>
  (wr j8.2 64 21 j8.1 j11).bind fun μ14 =>
  jn (fun (j15 : Mem) =>
  jn (fun (j18 : Int32) =>
  (wr j15 65 21 j8.1 j18).bind fun μ21 =>
  again9 ((j8.1 + (nI 1)), μ21)) (fun k19 =>
  if j8.1 ≤ (nI 2) then
  k19 (nI 0)
  else
  (rd j15 64 21 (j8.1 - (nI 3))).bind fun v22 =>
  k19 v22)) (fun k16 =>
  if j8.1 ≤ (nI 1) then
  k16 μ14
  else
  (rd μ14 64 21 j8.1).bind fun v23 =>
  (rd μ14 64 21 (j8.1 - (nI 2))).bind fun v24 =>
  (rd μ14 65 21 (j8.1 - (nI 2))).bind fun v25 =>
  (wr μ14 64 21 j8.1 ((v23 + v24) + v25)).bind fun μ26 =>
  k16 μ26)) (fun k12 =>
  if j8.1 = 0 then
  k12 (nI 1)
  else
  (rd j8.2 64 21 (j8.1 - (nI 1))).bind fun v27 =>
  (rd j8.2 65 21 (j8.1 - (nI 1))).bind fun v28 =>
  k12 (v27 + v28))) fuel ((nI 0), μ1))
theorem wd_window : yX4_window.cls = RX4 ∧ yX4_window.cls ≠ "java/lang/invoke/MethodHandle" ∧ yX4_window.cls ≠ "java/lang/invoke/VarHandle" ∧ (parseMethodDescriptor yX4_window.desc).map (fun d => d.parameters.length) = some 1 := by decide +kernel
set_option maxRecDepth 100000 in
theorem ct_window (μ : Mem) (x1 : Int32) : CtM yX4_window cX4_window 3 (some .int) 1 23 [.int x1] μ (fun r => (some (.int r.1), r.2)) (m_window μ x1) := by
  refine CtM.of (by decide) rfl (fun _ => Nat.le_of_ble_eq_true rfl) ?_
  intro l D cl ci cA am p e s m args below meth c hcl K hr hlk hK
  refine g_sub (ls' := [(0, .ref am), (1, .int x1)]) [0, 1] rfl ?_
  unfold m_window
  refine g_aloadn K 0 rfl rfl 1 dX4_window_0 rfl ?_
  refine g_iconst K (nI 0) ic_0 2 dX4_window_1 rfl ?_
  refine gm_put K hK hcl 0 (ty := .int) 5 (by decide) q1485 rfl (by decide +kernel) rfl rfl rfl dX4_window_2 rfl (fun μ1 _ => ?_)
  refine g_aloadn K 0 rfl rfl 6 dX4_window_5 rfl ?_
  refine g_iloadn K 1 rfl rfl 7 dX4_window_6 rfl ?_
  refine g_iconst K (nI 1) ic_1 8 dX4_window_7 rfl ?_
  refine g_bipush K (nI 20) bp_20 10 dX4_window_8 rfl ?_
  refine gm_call K hK hcl 13 (ct_isIn μ1 x1 (nI 1) (nI 20)) (lw_V q1723 q1725 qs55 q158 q1726) wd_isIn (by decide) rfl (Nat.le_of_ble_eq_true rfl) dX4_window_10 rfl (fun r2 _ => ?_)
  refine g_if_ne K 16 18 dX4_window_13 rfl (by decide) (fun _ => ?_) (fun _ => ?_)
  · refine g_iconst K (-1 : Int32) ic_m1 17 dX4_window_16 rfl ?_
    exact gm_iret K hK hcl hr hlk dX4_window_17 rfl
  · refine g_iconst K (nI 0) ic_0 19 dX4_window_18 rfl ?_
    refine g_istoren K [(0, .ref am), (1, .int x1), (2, .int (nI 0))] [1, 2, 0] rfl (by decide) rfl 20 dX4_window_19 rfl ?_
    refine g_jn (head := 120) (L := fun j3 => [(0, .ref am), (1, .int x1)]) (sf := fun j3 => []) (mf := fun j3 => j3) (fun j3 => ?_) (fun k4 h5 => ?_)
    · try dsimp only
      refine g_aloadn K 0 rfl rfl 121 dX4_window_120 rfl ?_
      refine gm_get K hK hcl 64 124 (by decide) q1549 rfl dX4_window_121 rfl ?_
      refine g_iloadn K 1 rfl rfl 125 dX4_window_124 rfl ?_
      refine gm_ald K hK hcl 64 38 21 126 rfl dX4_window_125 rfl (fun v6 _ => ?_)
      refine g_aloadn K 0 rfl rfl 127 dX4_window_126 rfl ?_
      refine gm_get K hK hcl 65 130 (by decide) q1550 rfl dX4_window_127 rfl ?_
      refine g_iloadn K 1 rfl rfl 131 dX4_window_130 rfl ?_
      refine gm_ald K hK hcl 65 39 21 132 rfl dX4_window_131 rfl (fun v7 _ => ?_)
      refine g_iadd K 133 dX4_window_132 rfl ?_
      exact gm_iret K hK hcl hr hlk dX4_window_133 rfl
    · refine g_lp (head := 20) (L := fun j8 => [(0, .ref am), (1, .int x1), (2, .int j8.1)]) (sf := fun j8 => []) (mf := fun j8 => j8.2) (fun again9 h10 j8 => ?_) fuel ((nI 0), μ1)
      try dsimp only
      refine g_iloadn K 2 rfl rfl 21 dX4_window_20 rfl ?_
      refine g_iloadn K 1 rfl rfl 22 dX4_window_21 rfl ?_
      refine g_icmp_gt K 25 120 dX4_window_22 rfl (by decide) (fun _ => ?_) (fun _ => ?_)
      · refine g_sub (ls' := [(0, .ref am), (1, .int x1)]) [0, 1] rfl ?_
        exact h5 j8.2
      · refine g_aloadn K 0 rfl rfl 26 dX4_window_25 rfl ?_
        refine gm_get K hK hcl 64 29 (by decide) q1549 rfl dX4_window_26 rfl ?_
        refine g_iloadn K 2 rfl rfl 30 dX4_window_29 rfl ?_
        refine g_iloadn K 2 rfl rfl 31 dX4_window_30 rfl ?_
        refine g_jn (head := 55) (L := fun j11 => [(0, .ref am), (1, .int x1), (2, .int j8.1)]) (sf := fun j11 => [.int j11, .int j8.1, .ref (am + 38)]) (mf := fun j11 => j8.2) (fun j11 => ?_) (fun k12 h13 => ?_)
        · try dsimp only
          refine gm_ast K hK hcl 64 38 21 56 rfl (fun _ => rfl) dX4_window_55 rfl (fun μ14 _ => ?_)
          refine g_iloadn K 2 rfl rfl 57 dX4_window_56 rfl ?_
          refine g_iconst K (nI 1) ic_1 58 dX4_window_57 rfl ?_
          refine g_jn (head := 91) (L := fun j15 => [(0, .ref am), (1, .int x1), (2, .int j8.1)]) (sf := fun j15 => []) (mf := fun j15 => j15) (fun j15 => ?_) (fun k16 h17 => ?_)
          · try dsimp only
            refine g_aloadn K 0 rfl rfl 92 dX4_window_91 rfl ?_
            refine gm_get K hK hcl 65 95 (by decide) q1550 rfl dX4_window_92 rfl ?_
            refine g_iloadn K 2 rfl rfl 96 dX4_window_95 rfl ?_
            refine g_iloadn K 2 rfl rfl 97 dX4_window_96 rfl ?_
            refine g_iconst K (nI 2) ic_2 98 dX4_window_97 rfl ?_
            refine g_jn (head := 113) (L := fun j18 => [(0, .ref am), (1, .int x1), (2, .int j8.1)]) (sf := fun j18 => [.int j18, .int j8.1, .ref (am + 39)]) (mf := fun j18 => j15) (fun j18 => ?_) (fun k19 h20 => ?_)
            · try dsimp only
              refine gm_ast K hK hcl 65 39 21 114 rfl (fun _ => rfl) dX4_window_113 rfl (fun μ21 _ => ?_)
              refine g_iinc K (j8.1 + (nI 1)) 2 [(0, .ref am), (1, .int x1), (2, .int (j8.1 + (nI 1)))] [1, 2, 0] rfl (by rw [ic_1]) (by decide) rfl 117 dX4_window_114 rfl ?_
              refine g_goto K 20 dX4_window_117 (by decide) ?_
              exact h10 ((j8.1 + (nI 1)), μ21)
            · refine g_icmp_le K 101 112 dX4_window_98 rfl (by decide) (fun _ => ?_) (fun _ => ?_)
              · refine g_iconst K (nI 0) ic_0 113 dX4_window_112 rfl ?_
                exact h20 (nI 0)
              · refine g_aloadn K 0 rfl rfl 102 dX4_window_101 rfl ?_
                refine gm_get K hK hcl 64 105 (by decide) q1549 rfl dX4_window_102 rfl ?_
                refine g_iloadn K 2 rfl rfl 106 dX4_window_105 rfl ?_
                refine g_iconst K (nI 3) ic_3 107 dX4_window_106 rfl ?_
                refine g_isub K 108 dX4_window_107 rfl ?_
                refine gm_ald K hK hcl 64 38 21 109 rfl dX4_window_108 rfl (fun v22 _ => ?_)
                refine g_goto K 113 dX4_window_109 (by decide) ?_
                exact h20 v22
          · refine g_icmp_le K 61 91 dX4_window_58 rfl (by decide) (fun _ => ?_) (fun _ => ?_)
            · exact h17 μ14
            · refine g_aloadn K 0 rfl rfl 62 dX4_window_61 rfl ?_
              refine gm_get K hK hcl 64 65 (by decide) q1549 rfl dX4_window_62 rfl ?_
              refine g_iloadn K 2 rfl rfl 66 dX4_window_65 rfl ?_
              refine g_aloadn K 0 rfl rfl 67 dX4_window_66 rfl ?_
              refine gm_get K hK hcl 64 70 (by decide) q1549 rfl dX4_window_67 rfl ?_
              refine g_iloadn K 2 rfl rfl 71 dX4_window_70 rfl ?_
              refine gm_ald K hK hcl 64 38 21 72 rfl dX4_window_71 rfl (fun v23 _ => ?_)
              refine g_aloadn K 0 rfl rfl 73 dX4_window_72 rfl ?_
              refine gm_get K hK hcl 64 76 (by decide) q1549 rfl dX4_window_73 rfl ?_
              refine g_iloadn K 2 rfl rfl 77 dX4_window_76 rfl ?_
              refine g_iconst K (nI 2) ic_2 78 dX4_window_77 rfl ?_
              refine g_isub K 79 dX4_window_78 rfl ?_
              refine gm_ald K hK hcl 64 38 21 80 rfl dX4_window_79 rfl (fun v24 _ => ?_)
              refine g_iadd K 81 dX4_window_80 rfl ?_
              refine g_aloadn K 0 rfl rfl 82 dX4_window_81 rfl ?_
              refine gm_get K hK hcl 65 85 (by decide) q1550 rfl dX4_window_82 rfl ?_
              refine g_iloadn K 2 rfl rfl 86 dX4_window_85 rfl ?_
              refine g_iconst K (nI 2) ic_2 87 dX4_window_86 rfl ?_
              refine g_isub K 88 dX4_window_87 rfl ?_
              refine gm_ald K hK hcl 65 39 21 89 rfl dX4_window_88 rfl (fun v25 _ => ?_)
              refine g_iadd K 90 dX4_window_89 rfl ?_
              refine gm_ast K hK hcl 64 38 21 91 rfl (fun _ => rfl) dX4_window_90 rfl (fun μ26 _ => ?_)
              exact h17 μ26
        · refine g_if_ne K 34 38 dX4_window_31 rfl (by decide) (fun _ => ?_) (fun _ => ?_)
          · refine g_iconst K (nI 1) ic_1 35 dX4_window_34 rfl ?_
            refine g_goto K 55 dX4_window_35 (by decide) ?_
            exact h13 (nI 1)
          · refine g_aloadn K 0 rfl rfl 39 dX4_window_38 rfl ?_
            refine gm_get K hK hcl 64 42 (by decide) q1549 rfl dX4_window_39 rfl ?_
            refine g_iloadn K 2 rfl rfl 43 dX4_window_42 rfl ?_
            refine g_iconst K (nI 1) ic_1 44 dX4_window_43 rfl ?_
            refine g_isub K 45 dX4_window_44 rfl ?_
            refine gm_ald K hK hcl 64 38 21 46 rfl dX4_window_45 rfl (fun v27 _ => ?_)
            refine g_aloadn K 0 rfl rfl 47 dX4_window_46 rfl ?_
            refine gm_get K hK hcl 65 50 (by decide) q1550 rfl dX4_window_47 rfl ?_
            refine g_iloadn K 2 rfl rfl 51 dX4_window_50 rfl ?_
            refine g_iconst K (nI 1) ic_1 52 dX4_window_51 rfl ?_
            refine g_isub K 53 dX4_window_52 rfl ?_
            refine gm_ald K hK hcl 65 39 21 54 rfl dX4_window_53 rfl (fun v28 _ => ?_)
            refine g_iadd K 55 dX4_window_54 rfl ?_
            exact h13 (v27 + v28)
/-- member(II)I -/
def m_member (μ : Mem) (x1 : Int32) (x2 : Int32) : Option (Int32 × Mem) :=
  nm (up2 μ 0 0 (nI 0)) fun μ1 =>
  if x1 = (-1 : Int32) then
  nm (up2 μ1 66 0 (nI 0)) fun μ7 =>
  some ((nI 0), μ7)
  else
  (m_isIn μ1 x1 (nI 0) (nI 4095)).bind fun r2 =>
  if (bI r2) = 0 then
  some ((-1 : Int32), μ1)
  else
  (m_isIn μ1 x2 (nI 1) (nI 9)).bind fun r3 =>
  if (bI r3) = 0 then
  some ((-1 : Int32), μ1)
  else
  if (μ1 66 0) = (nI 8) then
  some ((-1 : Int32), μ1)
  else
  (wr μ1 67 8 (μ1 66 0) x1).bind fun μ4 =>
  (wr μ4 68 8 (μ4 66 0) x2).bind fun μ5 =>
  nm (up2 μ5 66 0 ((μ5 66 0) + (nI 1))) fun μ6 =>
  some ((μ6 66 0), μ6)
theorem wd_member : yX4_member.cls = RX4 ∧ yX4_member.cls ≠ "java/lang/invoke/MethodHandle" ∧ yX4_member.cls ≠ "java/lang/invoke/VarHandle" ∧ (parseMethodDescriptor yX4_member.desc).map (fun d => d.parameters.length) = some 2 := by decide +kernel
set_option maxRecDepth 100000 in
theorem ct_member (μ : Mem) (x1 : Int32) (x2 : Int32) : CtM yX4_member cX4_member 3 (some .int) 1 23 [.int x1, .int x2] μ (fun r => (some (.int r.1), r.2)) (m_member μ x1 x2) := by
  refine CtM.of (by decide) rfl (fun _ => Nat.le_of_ble_eq_true rfl) ?_
  intro l D cl ci cA am p e s m args below meth c hcl K hr hlk hK
  refine g_sub (ls' := [(0, .ref am), (1, .int x1), (2, .int x2)]) [0, 1, 2] rfl ?_
  unfold m_member
  refine g_aloadn K 0 rfl rfl 1 dX4_member_0 rfl ?_
  refine g_iconst K (nI 0) ic_0 2 dX4_member_1 rfl ?_
  refine gm_put K hK hcl 0 (ty := .int) 5 (by decide) q1485 rfl (by decide +kernel) rfl rfl rfl dX4_member_2 rfl (fun μ1 _ => ?_)
  refine g_iloadn K 1 rfl rfl 6 dX4_member_5 rfl ?_
  refine g_iconst K (-1 : Int32) ic_m1 7 dX4_member_6 rfl ?_
  refine g_icmp_ne K 10 17 dX4_member_7 rfl (by decide) (fun _ => ?_) (fun _ => ?_)
  · refine g_aloadn K 0 rfl rfl 11 dX4_member_10 rfl ?_
    refine g_iconst K (nI 0) ic_0 12 dX4_member_11 rfl ?_
    refine gm_put K hK hcl 66 (ty := .int) 15 (by decide) q1551 rfl (by decide +kernel) rfl rfl rfl dX4_member_12 rfl (fun μ7 _ => ?_)
    refine g_iconst K (nI 0) ic_0 16 dX4_member_15 rfl ?_
    exact gm_iret K hK hcl hr hlk dX4_member_16 rfl
  · refine g_aloadn K 0 rfl rfl 18 dX4_member_17 rfl ?_
    refine g_iloadn K 1 rfl rfl 19 dX4_member_18 rfl ?_
    refine g_iconst K (nI 0) ic_0 20 dX4_member_19 rfl ?_
    refine g_sipush K (nI 4095) sp_4095 23 dX4_member_20 rfl ?_
    refine gm_call K hK hcl 26 (ct_isIn μ1 x1 (nI 0) (nI 4095)) (lw_V q1723 q1725 qs55 q158 q1726) wd_isIn (by decide) rfl (Nat.le_of_ble_eq_true rfl) dX4_member_23 rfl (fun r2 _ => ?_)
    refine g_if_eq K 29 49 dX4_member_26 rfl (by decide) (fun _ => ?_) (fun _ => ?_)
    · refine g_iconst K (-1 : Int32) ic_m1 50 dX4_member_49 rfl ?_
      exact gm_iret K hK hcl hr hlk dX4_member_50 rfl
    · refine g_aloadn K 0 rfl rfl 30 dX4_member_29 rfl ?_
      refine g_iloadn K 2 rfl rfl 31 dX4_member_30 rfl ?_
      refine g_iconst K (nI 1) ic_1 32 dX4_member_31 rfl ?_
      refine g_bipush K (nI 9) bp_9 34 dX4_member_32 rfl ?_
      refine gm_call K hK hcl 37 (ct_isIn μ1 x2 (nI 1) (nI 9)) (lw_V q1723 q1725 qs55 q158 q1726) wd_isIn (by decide) rfl (Nat.le_of_ble_eq_true rfl) dX4_member_34 rfl (fun r3 _ => ?_)
      refine g_if_eq K 40 49 dX4_member_37 rfl (by decide) (fun _ => ?_) (fun _ => ?_)
      · refine g_iconst K (-1 : Int32) ic_m1 50 dX4_member_49 rfl ?_
        exact gm_iret K hK hcl hr hlk dX4_member_50 rfl
      · refine g_aloadn K 0 rfl rfl 41 dX4_member_40 rfl ?_
        refine gm_get K hK hcl 66 44 (by decide) q1551 rfl dX4_member_41 rfl ?_
        refine g_bipush K (nI 8) bp_8 46 dX4_member_44 rfl ?_
        refine g_icmp_ne K 49 51 dX4_member_46 rfl (by decide) (fun _ => ?_) (fun _ => ?_)
        · refine g_iconst K (-1 : Int32) ic_m1 50 dX4_member_49 rfl ?_
          exact gm_iret K hK hcl hr hlk dX4_member_50 rfl
        · refine g_aloadn K 0 rfl rfl 52 dX4_member_51 rfl ?_
          refine gm_get K hK hcl 67 55 (by decide) q1552 rfl dX4_member_52 rfl ?_
          refine g_aloadn K 0 rfl rfl 56 dX4_member_55 rfl ?_
          refine gm_get K hK hcl 66 59 (by decide) q1551 rfl dX4_member_56 rfl ?_
          refine g_iloadn K 1 rfl rfl 60 dX4_member_59 rfl ?_
          refine gm_ast K hK hcl 67 40 8 61 rfl (fun _ => rfl) dX4_member_60 rfl (fun μ4 _ => ?_)
          refine g_aloadn K 0 rfl rfl 62 dX4_member_61 rfl ?_
          refine gm_get K hK hcl 68 65 (by decide) q1553 rfl dX4_member_62 rfl ?_
          refine g_aloadn K 0 rfl rfl 66 dX4_member_65 rfl ?_
          refine gm_get K hK hcl 66 69 (by decide) q1551 rfl dX4_member_66 rfl ?_
          refine g_iloadn K 2 rfl rfl 70 dX4_member_69 rfl ?_
          refine gm_ast K hK hcl 68 41 8 71 rfl (fun _ => rfl) dX4_member_70 rfl (fun μ5 _ => ?_)
          refine g_aloadn K 0 rfl rfl 72 dX4_member_71 rfl ?_
          refine g_aloadn K 0 rfl rfl 73 dX4_member_72 rfl ?_
          refine gm_get K hK hcl 66 76 (by decide) q1551 rfl dX4_member_73 rfl ?_
          refine g_iconst K (nI 1) ic_1 77 dX4_member_76 rfl ?_
          refine g_iadd K 78 dX4_member_77 rfl ?_
          refine gm_put K hK hcl 66 (ty := .int) 81 (by decide) q1551 rfl (by decide +kernel) rfl rfl rfl dX4_member_78 rfl (fun μ6 _ => ?_)
          refine g_aloadn K 0 rfl rfl 82 dX4_member_81 rfl ?_
          refine gm_get K hK hcl 66 85 (by decide) q1551 rfl dX4_member_82 rfl ?_
          exact gm_iret K hK hcl hr hlk dX4_member_85 rfl
/-- moreOf(I)I -/
def m_moreOf (μ : Mem) (x1 : Int32) : Option (Int32) :=
  lp (fun again2 (j1 : Int32 × Int32) =>
  if (μ 66 0) ≤ j1.2 then
  some j1.1
  else
  (m_has μ x1 j1.2).bind fun r4 =>
  jn (fun (j5 : Int32) =>
  again2 ((j1.1 + j5), (j1.2 + (nI 1)))) (fun k6 =>
  if (bI r4) = 0 then
  (rd μ 68 8 j1.2).bind fun v8 =>
  k6 (-v8)
  else
  (rd μ 68 8 j1.2).bind fun v9 =>
  k6 v9)) fuel ((nI 0), (nI 0))
theorem wd_moreOf : yX4_moreOf.cls = RX4 ∧ yX4_moreOf.cls ≠ "java/lang/invoke/MethodHandle" ∧ yX4_moreOf.cls ≠ "java/lang/invoke/VarHandle" ∧ (parseMethodDescriptor yX4_moreOf.desc).map (fun d => d.parameters.length) = some 1 := by decide +kernel
set_option maxRecDepth 100000 in
theorem ct_moreOf (μ : Mem) (x1 : Int32) : CtM yX4_moreOf cX4_moreOf 4 (some .int) 1 22 [.int x1] μ (fun r => (some (.int r), μ)) (m_moreOf μ x1) := by
  refine CtM.of (by decide) rfl (fun _ => Nat.le_of_ble_eq_true rfl) ?_
  intro l D cl ci cA am p e s m args below meth c hcl K hr hlk hK
  refine g_sub (ls' := [(0, .ref am), (1, .int x1)]) [0, 1] rfl ?_
  unfold m_moreOf
  refine g_iconst K (nI 0) ic_0 1 dX4_moreOf_0 rfl ?_
  refine g_istoren K [(0, .ref am), (1, .int x1), (2, .int (nI 0))] [1, 2, 0] rfl (by decide) rfl 2 dX4_moreOf_1 rfl ?_
  refine g_iconst K (nI 0) ic_0 3 dX4_moreOf_2 rfl ?_
  refine g_istoren K [(0, .ref am), (1, .int x1), (2, .int (nI 0)), (3, .int (nI 0))] [1, 2, 3, 0] rfl (by decide) rfl 4 dX4_moreOf_3 rfl ?_
  refine g_lp (head := 4) (L := fun j1 => [(0, .ref am), (1, .int x1), (2, .int j1.1), (3, .int j1.2)]) (sf := fun j1 => []) (mf := fun j1 => μ) (fun again2 h3 j1 => ?_) fuel ((nI 0), (nI 0))
  try dsimp only
  refine g_iloadn K 3 rfl rfl 5 dX4_moreOf_4 rfl ?_
  refine g_aloadn K 0 rfl rfl 6 dX4_moreOf_5 rfl ?_
  refine gm_get K hK hcl 66 9 (by decide) q1551 rfl dX4_moreOf_6 rfl ?_
  refine g_icmp_ge K 12 46 dX4_moreOf_9 rfl (by decide) (fun _ => ?_) (fun _ => ?_)
  · refine g_iloadn K 2 rfl rfl 47 dX4_moreOf_46 rfl ?_
    exact gm_iret K hK hcl hr hlk dX4_moreOf_47 rfl
  · refine g_iloadn K 2 rfl rfl 13 dX4_moreOf_12 rfl ?_
    refine g_aloadn K 0 rfl rfl 14 dX4_moreOf_13 rfl ?_
    refine g_iloadn K 1 rfl rfl 15 dX4_moreOf_14 rfl ?_
    refine g_iloadn K 3 rfl rfl 16 dX4_moreOf_15 rfl ?_
    refine gm_call K hK hcl 19 (ct_has μ x1 j1.2) (lw_V q1931 q1933 qs101 q158 q1934) wd_has (by decide) rfl (Nat.le_of_ble_eq_true rfl) dX4_moreOf_16 rfl (fun r4 _ => ?_)
    refine g_jn (head := 38) (L := fun j5 => [(0, .ref am), (1, .int x1), (3, .int j1.2)]) (sf := fun j5 => [.int j5, .int j1.1]) (mf := fun j5 => μ) (fun j5 => ?_) (fun k6 h7 => ?_)
    · try dsimp only
      refine g_iadd K 39 dX4_moreOf_38 rfl ?_
      refine g_istoren K [(0, .ref am), (1, .int x1), (2, .int (j1.1 + j5)), (3, .int j1.2)] [1, 2, 0, 3] rfl (by decide) rfl 40 dX4_moreOf_39 rfl ?_
      refine g_iinc K (j1.2 + (nI 1)) 3 [(0, .ref am), (1, .int x1), (2, .int (j1.1 + j5)), (3, .int (j1.2 + (nI 1)))] [1, 2, 3, 0] rfl (by rw [ic_1]) (by decide) rfl 43 dX4_moreOf_40 rfl ?_
      refine g_goto K 4 dX4_moreOf_43 (by decide) ?_
      exact h3 ((j1.1 + j5), (j1.2 + (nI 1)))
    · refine g_if_eq K 22 31 dX4_moreOf_19 rfl (by decide) (fun _ => ?_) (fun _ => ?_)
      · refine g_aloadn K 0 rfl rfl 32 dX4_moreOf_31 rfl ?_
        refine gm_get K hK hcl 68 35 (by decide) q1553 rfl dX4_moreOf_32 rfl ?_
        refine g_iloadn K 3 rfl rfl 36 dX4_moreOf_35 rfl ?_
        refine gm_ald K hK hcl 68 41 8 37 rfl dX4_moreOf_36 rfl (fun v8 _ => ?_)
        refine g_ineg K 38 dX4_moreOf_37 rfl ?_
        refine g_sub (ls' := [(0, .ref am), (1, .int x1), (3, .int j1.2)]) [0, 1, 3] rfl ?_
        exact h7 (-v8)
      · refine g_aloadn K 0 rfl rfl 23 dX4_moreOf_22 rfl ?_
        refine gm_get K hK hcl 68 26 (by decide) q1553 rfl dX4_moreOf_23 rfl ?_
        refine g_iloadn K 3 rfl rfl 27 dX4_moreOf_26 rfl ?_
        refine gm_ald K hK hcl 68 41 8 28 rfl dX4_moreOf_27 rfl (fun v9 _ => ?_)
        refine g_goto K 38 dX4_moreOf_28 (by decide) ?_
        refine g_sub (ls' := [(0, .ref am), (1, .int x1), (3, .int j1.2)]) [0, 1, 3] rfl ?_
        exact h7 v9
/-- council(I)I -/
def m_council (μ : Mem) (x1 : Int32) : Option (Int32 × Mem) :=
  nm (up2 μ 0 0 (nI 0)) fun μ1 =>
  (m_isIn μ1 x1 (nI 0) (nI 1)).bind fun r2 =>
  if (bI r2) = 0 then
  some ((-1 : Int32), μ1)
  else
  if x1 = (nI 1) then
  lp (fun again18 (j17 : Int32 × Int32) =>
  if ((nI 1) <<< ((μ1 66 0) &&& 31)) ≤ j17.2 then
  some (j17.1, μ1)
  else
  (m_onesOf μ1 j17.2).bind fun r20 =>
  if j17.1 ≤ r20 then
  again18 (j17.1, (j17.2 + (nI 1)))
  else
  (m_moreOf μ1 j17.2).bind fun r21 =>
  if r21 ≤ 0 then
  again18 (j17.1, (j17.2 + (nI 1)))
  else
  (m_onesOf μ1 j17.2).bind fun r22 =>
  again18 (r22, (j17.2 + (nI 1)))) fuel ((μ1 66 0), (nI 0))
  else
  lp (fun again4 (j3 : Int32 × Int32) =>
  if (nI 12) ≤ j3.2 then
  some (j3.1, μ1)
  else
  jn (fun (j6 : Int32) =>
  (m_moreOf μ1 j6).bind fun r9 =>
  if r9 ≤ 0 then
  again4 (j3.1, (j3.2 + (nI 1)))
  else
  nm (j3.1 ||| ((nI 1) <<< (j3.2 &&& 31))) fun v10 =>
  again4 (v10, (j3.2 + (nI 1)))) (fun k7 =>
  lp (fun again12 (j11 : Int32 × Int32) =>
  if (μ1 66 0) ≤ j11.2 then
  k7 j11.1
  else
  (rd μ1 67 8 j11.2).bind fun v14 =>
  (m_has μ1 v14 j3.2).bind fun r15 =>
  if (bI r15) = 0 then
  again12 (j11.1, (j11.2 + (nI 1)))
  else
  nm (j11.1 ||| ((nI 1) <<< (j11.2 &&& 31))) fun v16 =>
  again12 (v16, (j11.2 + (nI 1)))) fuel ((nI 0), (nI 0)))) fuel ((nI 0), (nI 0))
theorem wd_council : yX4_council.cls = RX4 ∧ yX4_council.cls ≠ "java/lang/invoke/MethodHandle" ∧ yX4_council.cls ≠ "java/lang/invoke/VarHandle" ∧ (parseMethodDescriptor yX4_council.desc).map (fun d => d.parameters.length) = some 1 := by decide +kernel
set_option maxRecDepth 100000 in
theorem ct_council (μ : Mem) (x1 : Int32) : CtM yX4_council cX4_council 6 (some .int) 2 45 [.int x1] μ (fun r => (some (.int r.1), r.2)) (m_council μ x1) := by
  refine CtM.of (by decide) rfl (fun _ => Nat.le_of_ble_eq_true rfl) ?_
  intro l D cl ci cA am p e s m args below meth c hcl K hr hlk hK
  refine g_sub (ls' := [(0, .ref am), (1, .int x1)]) [0, 1] rfl ?_
  unfold m_council
  refine g_aloadn K 0 rfl rfl 1 dX4_council_0 rfl ?_
  refine g_iconst K (nI 0) ic_0 2 dX4_council_1 rfl ?_
  refine gm_put K hK hcl 0 (ty := .int) 5 (by decide) q1485 rfl (by decide +kernel) rfl rfl rfl dX4_council_2 rfl (fun μ1 _ => ?_)
  refine g_aloadn K 0 rfl rfl 6 dX4_council_5 rfl ?_
  refine g_iloadn K 1 rfl rfl 7 dX4_council_6 rfl ?_
  refine g_iconst K (nI 0) ic_0 8 dX4_council_7 rfl ?_
  refine g_iconst K (nI 1) ic_1 9 dX4_council_8 rfl ?_
  refine gm_call K hK hcl 12 (ct_isIn μ1 x1 (nI 0) (nI 1)) (lw_V q1723 q1725 qs55 q158 q1726) wd_isIn (by decide) rfl (Nat.le_of_ble_eq_true rfl) dX4_council_9 rfl (fun r2 _ => ?_)
  refine g_if_ne K 15 17 dX4_council_12 rfl (by decide) (fun _ => ?_) (fun _ => ?_)
  · refine g_iconst K (-1 : Int32) ic_m1 16 dX4_council_15 rfl ?_
    exact gm_iret K hK hcl hr hlk dX4_council_16 rfl
  · refine g_iloadn K 1 rfl rfl 18 dX4_council_17 rfl ?_
    refine g_iconst K (nI 1) ic_1 19 dX4_council_18 rfl ?_
    refine g_icmp_ne K 22 70 dX4_council_19 rfl (by decide) (fun _ => ?_) (fun _ => ?_)
    · refine g_aloadn K 0 rfl rfl 23 dX4_council_22 rfl ?_
      refine gm_get K hK hcl 66 26 (by decide) q1551 rfl dX4_council_23 rfl ?_
      refine g_istoren K [(0, .ref am), (2, .int (μ1 66 0))] [1, 0] rfl (by decide) rfl 27 dX4_council_26 rfl ?_
      refine g_iconst K (nI 0) ic_0 28 dX4_council_27 rfl ?_
      refine g_istoren K [(0, .ref am), (2, .int (μ1 66 0)), (3, .int (nI 0))] [1, 2, 0] rfl (by decide) rfl 29 dX4_council_28 rfl ?_
      refine g_lp (head := 29) (L := fun j17 => [(0, .ref am), (2, .int j17.1), (3, .int j17.2)]) (sf := fun j17 => []) (mf := fun j17 => μ1) (fun again18 h19 j17 => ?_) fuel ((μ1 66 0), (nI 0))
      try dsimp only
      refine g_iloadn K 2 rfl rfl 30 dX4_council_29 rfl ?_
      refine g_iconst K (nI 1) ic_1 31 dX4_council_30 rfl ?_
      refine g_aloadn K 0 rfl rfl 32 dX4_council_31 rfl ?_
      refine gm_get K hK hcl 66 35 (by decide) q1551 rfl dX4_council_32 rfl ?_
      refine g_ishl K 36 dX4_council_35 rfl ?_
      refine g_icmp_ge K 39 68 dX4_council_36 rfl (by decide) (fun _ => ?_) (fun _ => ?_)
      · refine g_iloadn K 1 rfl rfl 69 dX4_council_68 rfl ?_
        exact gm_iret K hK hcl hr hlk dX4_council_69 rfl
      · refine g_aloadn K 0 rfl rfl 40 dX4_council_39 rfl ?_
        refine g_iloadn K 2 rfl rfl 41 dX4_council_40 rfl ?_
        refine gm_call K hK hcl 44 (ct_onesOf μ1 j17.2) (lw_V q2029 q2031 qs124 q158 q2032) wd_onesOf (by decide) rfl (Nat.le_of_ble_eq_true rfl) dX4_council_41 rfl (fun r20 _ => ?_)
        refine g_iloadn K 1 rfl rfl 45 dX4_council_44 rfl ?_
        refine g_icmp_ge K 48 62 dX4_council_45 rfl (by decide) (fun _ => ?_) (fun _ => ?_)
        · refine g_iinc K (j17.2 + (nI 1)) 2 [(0, .ref am), (2, .int j17.1), (3, .int (j17.2 + (nI 1)))] [1, 2, 0] rfl (by rw [ic_1]) (by decide) rfl 65 dX4_council_62 rfl ?_
          refine g_goto K 29 dX4_council_65 (by decide) ?_
          exact h19 (j17.1, (j17.2 + (nI 1)))
        · refine g_aloadn K 0 rfl rfl 49 dX4_council_48 rfl ?_
          refine g_iloadn K 2 rfl rfl 50 dX4_council_49 rfl ?_
          refine gm_call K hK hcl 53 (ct_moreOf μ1 j17.2) (lw_V q2202 q2204 qs141 q158 q2205) wd_moreOf (by decide) rfl (Nat.le_of_ble_eq_true rfl) dX4_council_50 rfl (fun r21 _ => ?_)
          refine g_if_le K 56 62 dX4_council_53 rfl (by decide) (fun _ => ?_) (fun _ => ?_)
          · refine g_iinc K (j17.2 + (nI 1)) 2 [(0, .ref am), (2, .int j17.1), (3, .int (j17.2 + (nI 1)))] [1, 2, 0] rfl (by rw [ic_1]) (by decide) rfl 65 dX4_council_62 rfl ?_
            refine g_goto K 29 dX4_council_65 (by decide) ?_
            exact h19 (j17.1, (j17.2 + (nI 1)))
          · refine g_aloadn K 0 rfl rfl 57 dX4_council_56 rfl ?_
            refine g_iloadn K 2 rfl rfl 58 dX4_council_57 rfl ?_
            refine gm_call K hK hcl 61 (ct_onesOf μ1 j17.2) (lw_V q2029 q2031 qs124 q158 q2032) wd_onesOf (by decide) rfl (Nat.le_of_ble_eq_true rfl) dX4_council_58 rfl (fun r22 _ => ?_)
            refine g_istoren K [(0, .ref am), (2, .int r22), (3, .int j17.2)] [1, 0, 2] rfl (by decide) rfl 62 dX4_council_61 rfl ?_
            refine g_iinc K (j17.2 + (nI 1)) 2 [(0, .ref am), (2, .int r22), (3, .int (j17.2 + (nI 1)))] [1, 2, 0] rfl (by rw [ic_1]) (by decide) rfl 65 dX4_council_62 rfl ?_
            refine g_goto K 29 dX4_council_65 (by decide) ?_
            exact h19 (r22, (j17.2 + (nI 1)))
    · refine g_iconst K (nI 0) ic_0 71 dX4_council_70 rfl ?_
      refine g_istoren K [(0, .ref am), (2, .int (nI 0))] [1, 0] rfl (by decide) rfl 72 dX4_council_71 rfl ?_
      refine g_iconst K (nI 0) ic_0 73 dX4_council_72 rfl ?_
      refine g_istoren K [(0, .ref am), (2, .int (nI 0)), (3, .int (nI 0))] [1, 2, 0] rfl (by decide) rfl 74 dX4_council_73 rfl ?_
      refine g_lp (head := 74) (L := fun j3 => [(0, .ref am), (2, .int j3.1), (3, .int j3.2)]) (sf := fun j3 => []) (mf := fun j3 => μ1) (fun again4 h5 j3 => ?_) fuel ((nI 0), (nI 0))
      try dsimp only
      refine g_iloadn K 2 rfl rfl 75 dX4_council_74 rfl ?_
      refine g_bipush K (nI 12) bp_12 77 dX4_council_75 rfl ?_
      refine g_icmp_ge K 80 146 dX4_council_77 rfl (by decide) (fun _ => ?_) (fun _ => ?_)
      · refine g_iloadn K 1 rfl rfl 147 dX4_council_146 rfl ?_
        exact gm_iret K hK hcl hr hlk dX4_council_147 rfl
      · refine g_iconst K (nI 0) ic_0 81 dX4_council_80 rfl ?_
        refine g_istore K [(0, .ref am), (2, .int j3.1), (3, .int j3.2), (4, .int (nI 0))] [1, 2, 3, 0] (by decide) rfl 83 dX4_council_81 rfl ?_
        refine g_iconst K (nI 0) ic_0 84 dX4_council_83 rfl ?_
        refine g_istore K [(0, .ref am), (2, .int j3.1), (3, .int j3.2), (4, .int (nI 0)), (5, .int (nI 0))] [1, 2, 3, 4, 0] (by decide) rfl 86 dX4_council_84 rfl ?_
        refine g_jn (head := 125) (L := fun j6 => [(0, .ref am), (2, .int j3.1), (3, .int j3.2), (4, .int j6)]) (sf := fun j6 => []) (mf := fun j6 => μ1) (fun j6 => ?_) (fun k7 h8 => ?_)
        · try dsimp only
          refine g_aloadn K 0 rfl rfl 126 dX4_council_125 rfl ?_
          refine g_iload K 3 rfl 128 dX4_council_126 rfl ?_
          refine gm_call K hK hcl 131 (ct_moreOf μ1 j6) (lw_V q2202 q2204 qs141 q158 q2205) wd_moreOf (by decide) rfl (Nat.le_of_ble_eq_true rfl) dX4_council_128 rfl (fun r9 _ => ?_)
          refine g_if_le K 134 140 dX4_council_131 rfl (by decide) (fun _ => ?_) (fun _ => ?_)
          · refine g_iinc K (j3.2 + (nI 1)) 2 [(0, .ref am), (2, .int j3.1), (3, .int (j3.2 + (nI 1)))] [1, 2, 0] rfl (by rw [ic_1]) (by decide) rfl 143 dX4_council_140 rfl ?_
            refine g_goto K 74 dX4_council_143 (by decide) ?_
            exact h5 (j3.1, (j3.2 + (nI 1)))
          · refine g_iloadn K 1 rfl rfl 135 dX4_council_134 rfl ?_
            refine g_iconst K (nI 1) ic_1 136 dX4_council_135 rfl ?_
            refine g_iloadn K 2 rfl rfl 137 dX4_council_136 rfl ?_
            refine g_ishl K 138 dX4_council_137 rfl ?_
            refine g_ior K 139 dX4_council_138 rfl ?_
            refine g_nm (fun v10 _ => ?_)
            refine g_istoren K [(0, .ref am), (2, .int v10), (3, .int j3.2)] [1, 0, 2] rfl (by decide) rfl 140 dX4_council_139 rfl ?_
            refine g_iinc K (j3.2 + (nI 1)) 2 [(0, .ref am), (2, .int v10), (3, .int (j3.2 + (nI 1)))] [1, 2, 0] rfl (by rw [ic_1]) (by decide) rfl 143 dX4_council_140 rfl ?_
            refine g_goto K 74 dX4_council_143 (by decide) ?_
            exact h5 (v10, (j3.2 + (nI 1)))
        · refine g_lp (head := 86) (L := fun j11 => [(0, .ref am), (2, .int j3.1), (3, .int j3.2), (4, .int j11.1), (5, .int j11.2)]) (sf := fun j11 => []) (mf := fun j11 => μ1) (fun again12 h13 j11 => ?_) fuel ((nI 0), (nI 0))
          try dsimp only
          refine g_iload K 4 rfl 88 dX4_council_86 rfl ?_
          refine g_aloadn K 0 rfl rfl 89 dX4_council_88 rfl ?_
          refine gm_get K hK hcl 66 92 (by decide) q1551 rfl dX4_council_89 rfl ?_
          refine g_icmp_ge K 95 125 dX4_council_92 rfl (by decide) (fun _ => ?_) (fun _ => ?_)
          · refine g_sub (ls' := [(0, .ref am), (2, .int j3.1), (3, .int j3.2), (4, .int j11.1)]) [0, 1, 2, 3] rfl ?_
            exact h8 j11.1
          · refine g_aloadn K 0 rfl rfl 96 dX4_council_95 rfl ?_
            refine g_aloadn K 0 rfl rfl 97 dX4_council_96 rfl ?_
            refine gm_get K hK hcl 67 100 (by decide) q1552 rfl dX4_council_97 rfl ?_
            refine g_iload K 4 rfl 102 dX4_council_100 rfl ?_
            refine gm_ald K hK hcl 67 40 8 103 rfl dX4_council_102 rfl (fun v14 _ => ?_)
            refine g_iloadn K 2 rfl rfl 104 dX4_council_103 rfl ?_
            refine gm_call K hK hcl 107 (ct_has μ1 v14 j3.2) (lw_V q1931 q1933 qs101 q158 q1934) wd_has (by decide) rfl (Nat.le_of_ble_eq_true rfl) dX4_council_104 rfl (fun r15 _ => ?_)
            refine g_if_eq K 110 119 dX4_council_107 rfl (by decide) (fun _ => ?_) (fun _ => ?_)
            · refine g_iinc K (j11.2 + (nI 1)) 4 [(0, .ref am), (2, .int j3.1), (3, .int j3.2), (4, .int j11.1), (5, .int (j11.2 + (nI 1)))] [1, 2, 3, 4, 0] rfl (by rw [ic_1]) (by decide) rfl 122 dX4_council_119 rfl ?_
              refine g_goto K 86 dX4_council_122 (by decide) ?_
              exact h13 (j11.1, (j11.2 + (nI 1)))
            · refine g_iload K 3 rfl 112 dX4_council_110 rfl ?_
              refine g_iconst K (nI 1) ic_1 113 dX4_council_112 rfl ?_
              refine g_iload K 4 rfl 115 dX4_council_113 rfl ?_
              refine g_ishl K 116 dX4_council_115 rfl ?_
              refine g_ior K 117 dX4_council_116 rfl ?_
              refine g_nm (fun v16 _ => ?_)
              refine g_istore K [(0, .ref am), (2, .int j3.1), (3, .int j3.2), (4, .int v16), (5, .int j11.2)] [1, 2, 3, 0, 4] (by decide) rfl 119 dX4_council_117 rfl ?_
              refine g_iinc K (j11.2 + (nI 1)) 4 [(0, .ref am), (2, .int j3.1), (3, .int j3.2), (4, .int v16), (5, .int (j11.2 + (nI 1)))] [1, 2, 3, 4, 0] rfl (by rw [ic_1]) (by decide) rfl 122 dX4_council_119 rfl ?_
              refine g_goto K 86 dX4_council_122 (by decide) ?_
              exact h13 (v16, (j11.2 + (nI 1)))
/-- takesSlab(I)V -/
def m_takesSlab (μ : Mem) (x1 : Int32) : Option (Mem) :=
  lp (fun again2 (j1 : Int32 × Int32 × Mem) =>
  if (nI 5) ≤ j1.2.1 then
  some j1.2.2
  else
  (iremO j1.1 (nI 7)).bind fun v4 =>
  (wr j1.2.2 70 5 j1.2.1 v4).bind fun μ5 =>
  (idivO j1.1 (nI 7)).bind fun v6 =>
  again2 (v6, (j1.2.1 + (nI 1)), μ5)) fuel (x1, (nI 0), μ)
theorem wd_takesSlab : yX4_takesSlab.cls = RX4 ∧ yX4_takesSlab.cls ≠ "java/lang/invoke/MethodHandle" ∧ yX4_takesSlab.cls ≠ "java/lang/invoke/VarHandle" ∧ (parseMethodDescriptor yX4_takesSlab.desc).map (fun d => d.parameters.length) = some 1 := by decide +kernel
set_option maxRecDepth 100000 in
theorem ct_takesSlab (μ : Mem) (x1 : Int32) : CtM yX4_takesSlab cX4_takesSlab 4 none 0 0 [.int x1] μ (fun r => (none, r)) (m_takesSlab μ x1) := by
  refine CtM.of (by decide) rfl (fun _ => Nat.le_of_ble_eq_true rfl) ?_
  intro l D cl ci cA am p e s m args below meth c hcl K hr hlk hK
  refine g_sub (ls' := [(0, .ref am), (1, .int x1)]) [0, 1] rfl ?_
  unfold m_takesSlab
  refine g_iloadn K 1 rfl rfl 1 dX4_takesSlab_0 rfl ?_
  refine g_istoren K [(0, .ref am), (2, .int x1)] [1, 0] rfl (by decide) rfl 2 dX4_takesSlab_1 rfl ?_
  refine g_iconst K (nI 0) ic_0 3 dX4_takesSlab_2 rfl ?_
  refine g_istoren K [(0, .ref am), (2, .int x1), (3, .int (nI 0))] [1, 2, 0] rfl (by decide) rfl 4 dX4_takesSlab_3 rfl ?_
  refine g_lp (head := 4) (L := fun j1 => [(0, .ref am), (2, .int j1.1), (3, .int j1.2.1)]) (sf := fun j1 => []) (mf := fun j1 => j1.2.2) (fun again2 h3 j1 => ?_) fuel (x1, (nI 0), μ)
  try dsimp only
  refine g_iloadn K 2 rfl rfl 5 dX4_takesSlab_4 rfl ?_
  refine g_iconst K (nI 5) ic_5 6 dX4_takesSlab_5 rfl ?_
  refine g_icmp_ge K 9 30 dX4_takesSlab_6 rfl (by decide) (fun _ => ?_) (fun _ => ?_)
  · exact gm_vret K hK hcl hr hlk dX4_takesSlab_30 rfl
  · refine g_aloadn K 0 rfl rfl 10 dX4_takesSlab_9 rfl ?_
    refine gm_get K hK hcl 70 13 (by decide) q1555 rfl dX4_takesSlab_10 rfl ?_
    refine g_iloadn K 2 rfl rfl 14 dX4_takesSlab_13 rfl ?_
    refine g_iloadn K 1 rfl rfl 15 dX4_takesSlab_14 rfl ?_
    refine g_bipush K (nI 7) bp_7 17 dX4_takesSlab_15 rfl ?_
    refine g_irem K 18 dX4_takesSlab_17 rfl (fun v4 _ _ => ?_)
    refine gm_ast K hK hcl 70 43 5 19 rfl (fun _ => rfl) dX4_takesSlab_18 rfl (fun μ5 _ => ?_)
    refine g_iloadn K 1 rfl rfl 20 dX4_takesSlab_19 rfl ?_
    refine g_bipush K (nI 7) bp_7 22 dX4_takesSlab_20 rfl ?_
    refine g_idiv K 23 dX4_takesSlab_22 rfl (fun v6 _ _ => ?_)
    refine g_istoren K [(0, .ref am), (2, .int v6), (3, .int j1.2.1)] [1, 0, 2] rfl (by decide) rfl 24 dX4_takesSlab_23 rfl ?_
    refine g_iinc K (j1.2.1 + (nI 1)) 2 [(0, .ref am), (2, .int v6), (3, .int (j1.2.1 + (nI 1)))] [1, 2, 0] rfl (by rw [ic_1]) (by decide) rfl 27 dX4_takesSlab_24 rfl ?_
    refine g_goto K 4 dX4_takesSlab_27 (by decide) ?_
    exact h3 (v6, (j1.2.1 + (nI 1)), μ5)
/-- isSlab()Z -/
def m_isSlab (μ : Mem) : Option (Bool) :=
  lp (fun again2 (j1 : Int32) =>
  if (nI 5) ≤ j1 then
  some true
  else
  (rd μ 70 5 j1).bind fun v4 =>
  (rd μ 70 5 (j1 - (nI 1))).bind fun v5 =>
  if v4 ≤ v5 then
  again2 (j1 + (nI 1))
  else
  some false) fuel (nI 1)
theorem wd_isSlab : yX4_isSlab.cls = RX4 ∧ yX4_isSlab.cls ≠ "java/lang/invoke/MethodHandle" ∧ yX4_isSlab.cls ≠ "java/lang/invoke/VarHandle" ∧ (parseMethodDescriptor yX4_isSlab.desc).map (fun d => d.parameters.length) = some 0 := by decide +kernel
set_option maxRecDepth 100000 in
theorem ct_isSlab (μ : Mem) : CtM yX4_isSlab cX4_isSlab 2 (some .boolean) 0 0 [] μ (fun r => (some (.int (bI r)), μ)) (m_isSlab μ) := by
  refine CtM.of (by decide) rfl (fun _ => Nat.le_of_ble_eq_true rfl) ?_
  intro l D cl ci cA am p e s m args below meth c hcl K hr hlk hK
  refine g_sub (ls' := [(0, .ref am)]) [0] rfl ?_
  unfold m_isSlab
  refine g_iconst K (nI 1) ic_1 1 dX4_isSlab_0 rfl ?_
  refine g_istoren K [(0, .ref am), (1, .int (nI 1))] [1, 0] rfl (by decide) rfl 2 dX4_isSlab_1 rfl ?_
  refine g_lp (head := 2) (L := fun j1 => [(0, .ref am), (1, .int j1)]) (sf := fun j1 => []) (mf := fun j1 => μ) (fun again2 h3 j1 => ?_) fuel (nI 1)
  try dsimp only
  refine g_iloadn K 1 rfl rfl 3 dX4_isSlab_2 rfl ?_
  refine g_iconst K (nI 5) ic_5 4 dX4_isSlab_3 rfl ?_
  refine g_icmp_ge K 7 32 dX4_isSlab_4 rfl (by decide) (fun _ => ?_) (fun _ => ?_)
  · refine g_iconst K (nI 1) ic_1 33 dX4_isSlab_32 rfl ?_
    exact gm_zret K hK hcl hr hlk (b := true) dX4_isSlab_33 rfl rfl
  · refine g_aloadn K 0 rfl rfl 8 dX4_isSlab_7 rfl ?_
    refine gm_get K hK hcl 70 11 (by decide) q1555 rfl dX4_isSlab_8 rfl ?_
    refine g_iloadn K 1 rfl rfl 12 dX4_isSlab_11 rfl ?_
    refine gm_ald K hK hcl 70 43 5 13 rfl dX4_isSlab_12 rfl (fun v4 _ => ?_)
    refine g_aloadn K 0 rfl rfl 14 dX4_isSlab_13 rfl ?_
    refine gm_get K hK hcl 70 17 (by decide) q1555 rfl dX4_isSlab_14 rfl ?_
    refine g_iloadn K 1 rfl rfl 18 dX4_isSlab_17 rfl ?_
    refine g_iconst K (nI 1) ic_1 19 dX4_isSlab_18 rfl ?_
    refine g_isub K 20 dX4_isSlab_19 rfl ?_
    refine gm_ald K hK hcl 70 43 5 21 rfl dX4_isSlab_20 rfl (fun v5 _ => ?_)
    refine g_icmp_le K 24 26 dX4_isSlab_21 rfl (by decide) (fun _ => ?_) (fun _ => ?_)
    · refine g_iinc K (j1 + (nI 1)) 1 [(0, .ref am), (1, .int (j1 + (nI 1)))] [1, 0] rfl (by rw [ic_1]) (by decide) rfl 29 dX4_isSlab_26 rfl ?_
      refine g_goto K 2 dX4_isSlab_29 (by decide) ?_
      exact h3 (j1 + (nI 1))
    · refine g_iconst K (nI 0) ic_0 25 dX4_isSlab_24 rfl ?_
      exact gm_zret K hK hcl hr hlk (b := false) dX4_isSlab_25 rfl rfl
/-- bitten(II)I -/
def m_bitten (μ : Mem) (x1 : Int32) (x2 : Int32) : Option (Int32) :=
  lp (fun again2 (j1 : Int32 × Int32) =>
  if j1.2 < 0 then
  some j1.1
  else
  jn (fun (j4 : Int32) =>
  nm (((nI 7) * j1.1) + j4) fun v7 =>
  again2 (v7, (j1.2 + (-1 : Int32)))) (fun k5 =>
  if x1 ≤ j1.2 then
  (rd μ 70 5 j1.2).bind fun v8 =>
  (m_lesser μ v8 x2).bind fun r9 =>
  k5 r9
  else
  (rd μ 70 5 j1.2).bind fun v10 =>
  k5 v10)) fuel ((nI 0), (nI 4))
theorem wd_bitten : yX4_bitten.cls = RX4 ∧ yX4_bitten.cls ≠ "java/lang/invoke/MethodHandle" ∧ yX4_bitten.cls ≠ "java/lang/invoke/VarHandle" ∧ (parseMethodDescriptor yX4_bitten.desc).map (fun d => d.parameters.length) = some 2 := by decide +kernel
set_option maxRecDepth 100000 in
theorem ct_bitten (μ : Mem) (x1 : Int32) (x2 : Int32) : CtM yX4_bitten cX4_bitten 5 (some .int) 1 22 [.int x1, .int x2] μ (fun r => (some (.int r), μ)) (m_bitten μ x1 x2) := by
  refine CtM.of (by decide) rfl (fun _ => Nat.le_of_ble_eq_true rfl) ?_
  intro l D cl ci cA am p e s m args below meth c hcl K hr hlk hK
  refine g_sub (ls' := [(0, .ref am), (1, .int x1), (2, .int x2)]) [0, 1, 2] rfl ?_
  unfold m_bitten
  refine g_iconst K (nI 0) ic_0 1 dX4_bitten_0 rfl ?_
  refine g_istoren K [(0, .ref am), (1, .int x1), (2, .int x2), (3, .int (nI 0))] [1, 2, 3, 0] rfl (by decide) rfl 2 dX4_bitten_1 rfl ?_
  refine g_iconst K (nI 4) ic_4 3 dX4_bitten_2 rfl ?_
  refine g_istore K [(0, .ref am), (1, .int x1), (2, .int x2), (3, .int (nI 0)), (4, .int (nI 4))] [1, 2, 3, 4, 0] (by decide) rfl 5 dX4_bitten_3 rfl ?_
  refine g_lp (head := 5) (L := fun j1 => [(0, .ref am), (1, .int x1), (2, .int x2), (3, .int j1.1), (4, .int j1.2)]) (sf := fun j1 => []) (mf := fun j1 => μ) (fun again2 h3 j1 => ?_) fuel ((nI 0), (nI 4))
  try dsimp only
  refine g_iload K 4 rfl 7 dX4_bitten_5 rfl ?_
  refine g_if_lt K 10 50 dX4_bitten_7 rfl (by decide) (fun _ => ?_) (fun _ => ?_)
  · refine g_iloadn K 3 rfl rfl 51 dX4_bitten_50 rfl ?_
    exact gm_iret K hK hcl hr hlk dX4_bitten_51 rfl
  · refine g_bipush K (nI 7) bp_7 12 dX4_bitten_10 rfl ?_
    refine g_iloadn K 3 rfl rfl 13 dX4_bitten_12 rfl ?_
    refine g_imul K 14 dX4_bitten_13 rfl ?_
    refine g_iload K 4 rfl 16 dX4_bitten_14 rfl ?_
    refine g_iloadn K 1 rfl rfl 17 dX4_bitten_16 rfl ?_
    refine g_jn (head := 42) (L := fun j4 => [(0, .ref am), (1, .int x1), (2, .int x2), (4, .int j1.2)]) (sf := fun j4 => [.int j4, .int ((nI 7) * j1.1)]) (mf := fun j4 => μ) (fun j4 => ?_) (fun k5 h6 => ?_)
    · try dsimp only
      refine g_iadd K 43 dX4_bitten_42 rfl ?_
      refine g_nm (fun v7 _ => ?_)
      refine g_istoren K [(0, .ref am), (1, .int x1), (2, .int x2), (3, .int v7), (4, .int j1.2)] [1, 2, 3, 0, 4] rfl (by decide) rfl 44 dX4_bitten_43 rfl ?_
      refine g_iinc K (j1.2 + (-1 : Int32)) 4 [(0, .ref am), (1, .int x1), (2, .int x2), (3, .int v7), (4, .int (j1.2 + (-1 : Int32)))] [1, 2, 3, 4, 0] rfl (by rw [ic_m1]) (by decide) rfl 47 dX4_bitten_44 rfl ?_
      refine g_goto K 5 dX4_bitten_47 (by decide) ?_
      exact h3 (v7, (j1.2 + (-1 : Int32)))
    · refine g_icmp_ge K 20 30 dX4_bitten_17 rfl (by decide) (fun _ => ?_) (fun _ => ?_)
      · refine g_aloadn K 0 rfl rfl 31 dX4_bitten_30 rfl ?_
        refine g_aloadn K 0 rfl rfl 32 dX4_bitten_31 rfl ?_
        refine gm_get K hK hcl 70 35 (by decide) q1555 rfl dX4_bitten_32 rfl ?_
        refine g_iload K 4 rfl 37 dX4_bitten_35 rfl ?_
        refine gm_ald K hK hcl 70 43 5 38 rfl dX4_bitten_37 rfl (fun v8 _ => ?_)
        refine g_iloadn K 2 rfl rfl 39 dX4_bitten_38 rfl ?_
        refine gm_call K hK hcl 42 (ct_lesser μ v8 x2) (lw_V q2025 q2027 qs123 q158 q2028) wd_lesser (by decide) rfl (Nat.le_of_ble_eq_true rfl) dX4_bitten_39 rfl (fun r9 _ => ?_)
        refine g_sub (ls' := [(0, .ref am), (1, .int x1), (2, .int x2), (4, .int j1.2)]) [0, 1, 2, 4] rfl ?_
        exact h6 r9
      · refine g_aloadn K 0 rfl rfl 21 dX4_bitten_20 rfl ?_
        refine gm_get K hK hcl 70 24 (by decide) q1555 rfl dX4_bitten_21 rfl ?_
        refine g_iload K 4 rfl 26 dX4_bitten_24 rfl ?_
        refine gm_ald K hK hcl 70 43 5 27 rfl dX4_bitten_26 rfl (fun v10 _ => ?_)
        refine g_goto K 42 dX4_bitten_27 (by decide) ?_
        refine g_sub (ls' := [(0, .ref am), (1, .int x1), (2, .int x2), (4, .int j1.2)]) [0, 1, 2, 4] rfl ?_
        exact h6 v10
/-- goodBite()I -/
def m_goodBite (μ : Mem) : Option (Int32) :=
  jn (fun (j1 : Int32 × Int32) =>
  some (((nI 10) * j1.1) + j1.2)) (fun k2 =>
  lp (fun again5 (j4 : Int32) =>
  if (nI 5) ≤ j4 then
  some (-1 : Int32)
  else
  lp (fun again8 (j7 : Int32) =>
  (rd μ 70 5 j4).bind fun v10 =>
  if v10 ≤ j7 then
  again5 (j4 + (nI 1))
  else
  if (j4 + j7) ≤ 0 then
  again8 (j7 + (nI 1))
  else
  (m_bitten μ j4 j7).bind fun r11 =>
  (rd μ 69 16807 r11).bind fun v12 =>
  if v12 = 0 then
  k2 (j4, j7)
  else
  again8 (j7 + (nI 1))) fuel (nI 0)) fuel (nI 0))
theorem wd_goodBite : yX4_goodBite.cls = RX4 ∧ yX4_goodBite.cls ≠ "java/lang/invoke/MethodHandle" ∧ yX4_goodBite.cls ≠ "java/lang/invoke/VarHandle" ∧ (parseMethodDescriptor yX4_goodBite.desc).map (fun d => d.parameters.length) = some 0 := by decide +kernel
set_option maxRecDepth 100000 in
theorem ct_goodBite (μ : Mem) : CtM yX4_goodBite cX4_goodBite 3 (some .int) 2 46 [] μ (fun r => (some (.int r), μ)) (m_goodBite μ) := by
  refine CtM.of (by decide) rfl (fun _ => Nat.le_of_ble_eq_true rfl) ?_
  intro l D cl ci cA am p e s m args below meth c hcl K hr hlk hK
  refine g_sub (ls' := [(0, .ref am)]) [0] rfl ?_
  unfold m_goodBite
  refine g_iconst K (nI 0) ic_0 1 dX4_goodBite_0 rfl ?_
  refine g_istoren K [(0, .ref am), (1, .int (nI 0))] [1, 0] rfl (by decide) rfl 2 dX4_goodBite_1 rfl ?_
  refine g_jn (head := 39) (L := fun j1 => [(0, .ref am), (1, .int j1.1), (2, .int j1.2)]) (sf := fun j1 => []) (mf := fun j1 => μ) (fun j1 => ?_) (fun k2 h3 => ?_)
  · try dsimp only
    refine g_bipush K (nI 10) bp_10 41 dX4_goodBite_39 rfl ?_
    refine g_iloadn K 1 rfl rfl 42 dX4_goodBite_41 rfl ?_
    refine g_imul K 43 dX4_goodBite_42 rfl ?_
    refine g_iloadn K 2 rfl rfl 44 dX4_goodBite_43 rfl ?_
    refine g_iadd K 45 dX4_goodBite_44 rfl ?_
    exact gm_iret K hK hcl hr hlk dX4_goodBite_45 rfl
  · refine g_lp (head := 2) (L := fun j4 => [(0, .ref am), (1, .int j4)]) (sf := fun j4 => []) (mf := fun j4 => μ) (fun again5 h6 j4 => ?_) fuel (nI 0)
    try dsimp only
    refine g_iloadn K 1 rfl rfl 3 dX4_goodBite_2 rfl ?_
    refine g_iconst K (nI 5) ic_5 4 dX4_goodBite_3 rfl ?_
    refine g_icmp_ge K 7 58 dX4_goodBite_4 rfl (by decide) (fun _ => ?_) (fun _ => ?_)
    · refine g_iconst K (-1 : Int32) ic_m1 59 dX4_goodBite_58 rfl ?_
      exact gm_iret K hK hcl hr hlk dX4_goodBite_59 rfl
    · refine g_iconst K (nI 0) ic_0 8 dX4_goodBite_7 rfl ?_
      refine g_istoren K [(0, .ref am), (1, .int j4), (2, .int (nI 0))] [1, 2, 0] rfl (by decide) rfl 9 dX4_goodBite_8 rfl ?_
      refine g_lp (head := 9) (L := fun j7 => [(0, .ref am), (1, .int j4), (2, .int j7)]) (sf := fun j7 => []) (mf := fun j7 => μ) (fun again8 h9 j7 => ?_) fuel (nI 0)
      try dsimp only
      refine g_iloadn K 2 rfl rfl 10 dX4_goodBite_9 rfl ?_
      refine g_aloadn K 0 rfl rfl 11 dX4_goodBite_10 rfl ?_
      refine gm_get K hK hcl 70 14 (by decide) q1555 rfl dX4_goodBite_11 rfl ?_
      refine g_iloadn K 1 rfl rfl 15 dX4_goodBite_14 rfl ?_
      refine gm_ald K hK hcl 70 43 5 16 rfl dX4_goodBite_15 rfl (fun v10 _ => ?_)
      refine g_icmp_ge K 19 52 dX4_goodBite_16 rfl (by decide) (fun _ => ?_) (fun _ => ?_)
      · refine g_iinc K (j4 + (nI 1)) 1 [(0, .ref am), (1, .int (j4 + (nI 1)))] [1, 0] rfl (by rw [ic_1]) (by decide) rfl 55 dX4_goodBite_52 rfl ?_
        refine g_goto K 2 dX4_goodBite_55 (by decide) ?_
        exact h6 (j4 + (nI 1))
      · refine g_iloadn K 1 rfl rfl 20 dX4_goodBite_19 rfl ?_
        refine g_iloadn K 2 rfl rfl 21 dX4_goodBite_20 rfl ?_
        refine g_iadd K 22 dX4_goodBite_21 rfl ?_
        refine g_if_le K 25 46 dX4_goodBite_22 rfl (by decide) (fun _ => ?_) (fun _ => ?_)
        · refine g_iinc K (j7 + (nI 1)) 2 [(0, .ref am), (1, .int j4), (2, .int (j7 + (nI 1)))] [1, 2, 0] rfl (by rw [ic_1]) (by decide) rfl 49 dX4_goodBite_46 rfl ?_
          refine g_goto K 9 dX4_goodBite_49 (by decide) ?_
          exact h9 (j7 + (nI 1))
        · refine g_aloadn K 0 rfl rfl 26 dX4_goodBite_25 rfl ?_
          refine gm_get K hK hcl 69 29 (by decide) q1554 rfl dX4_goodBite_26 rfl ?_
          refine g_aloadn K 0 rfl rfl 30 dX4_goodBite_29 rfl ?_
          refine g_iloadn K 1 rfl rfl 31 dX4_goodBite_30 rfl ?_
          refine g_iloadn K 2 rfl rfl 32 dX4_goodBite_31 rfl ?_
          refine gm_call K hK hcl 35 (ct_bitten μ j4 j7) (lw_V q2222 q2224 qs145 q158 q2225) wd_bitten (by decide) rfl (Nat.le_of_ble_eq_true rfl) dX4_goodBite_32 rfl (fun r11 _ => ?_)
          refine gm_ald K hK hcl 69 42 16807 36 rfl dX4_goodBite_35 rfl (fun v12 _ => ?_)
          refine g_if_ne K 39 46 dX4_goodBite_36 rfl (by decide) (fun _ => ?_) (fun _ => ?_)
          · exact h3 (j4, j7)
          · refine g_iinc K (j7 + (nI 1)) 2 [(0, .ref am), (1, .int j4), (2, .int (j7 + (nI 1)))] [1, 2, 0] rfl (by rw [ic_1]) (by decide) rfl 49 dX4_goodBite_46 rfl ?_
            refine g_goto K 9 dX4_goodBite_49 (by decide) ?_
            exact h9 (j7 + (nI 1))
/-- game(II)I -/
def m_game (μ : Mem) (x1 : Int32) (x2 : Int32) : Option (Int32 × Mem) :=
  nm (up2 μ 0 0 (nI 0)) fun μ1 =>
  (m_isIn μ1 x1 (nI 1) (nI 5)).bind fun r2 =>
  if (bI r2) = 0 then
  some ((-1 : Int32), μ1)
  else
  (m_isIn μ1 x2 (nI 1) (nI 6)).bind fun r3 =>
  if (bI r3) = 0 then
  some ((-1 : Int32), μ1)
  else
  jn (fun (j4 : Int32) =>
  jn (fun (j7 : Mem) =>
  (m_takesSlab j7 j4).bind fun r10 =>
  (m_goodBite r10).bind fun r11 =>
  some (r11, r10)) (fun k8 =>
  lp (fun again13 (j12 : Int32 × Mem) =>
  if j4 < j12.1 then
  k8 j12.2
  else
  (m_takesSlab j12.2 j12.1).bind fun r15 =>
  (m_isSlab r15).bind fun r16 =>
  jn (fun (j17 : Int32) =>
  (wr r15 69 16807 j12.1 j17).bind fun μ20 =>
  again13 ((j12.1 + (nI 1)), μ20)) (fun k18 =>
  if (bI r16) = 0 then
  k18 (nI 0)
  else
  (m_goodBite r15).bind fun r21 =>
  if r21 = (-1 : Int32) then
  k18 (nI 0)
  else
  k18 (nI 1))) fuel ((nI 1), μ1))) (fun k5 =>
  lp (fun again23 (j22 : Int32 × Int32) =>
  if x1 ≤ j22.2 then
  k5 j22.1
  else
  nm (((nI 7) * j22.1) + x2) fun v25 =>
  again23 (v25, (j22.2 + (nI 1)))) fuel ((nI 0), (nI 0)))
theorem wd_game : yX4_game.cls = RX4 ∧ yX4_game.cls ≠ "java/lang/invoke/MethodHandle" ∧ yX4_game.cls ≠ "java/lang/invoke/VarHandle" ∧ (parseMethodDescriptor yX4_game.desc).map (fun d => d.parameters.length) = some 2 := by decide +kernel
set_option maxRecDepth 100000 in
theorem ct_game (μ : Mem) (x1 : Int32) (x2 : Int32) : CtM yX4_game cX4_game 5 (some .int) 3 68 [.int x1, .int x2] μ (fun r => (some (.int r.1), r.2)) (m_game μ x1 x2) := by
  refine CtM.of (by decide) rfl (fun _ => Nat.le_of_ble_eq_true rfl) ?_
  intro l D cl ci cA am p e s m args below meth c hcl K hr hlk hK
  refine g_sub (ls' := [(0, .ref am), (1, .int x1), (2, .int x2)]) [0, 1, 2] rfl ?_
  unfold m_game
  refine g_aloadn K 0 rfl rfl 1 dX4_game_0 rfl ?_
  refine g_iconst K (nI 0) ic_0 2 dX4_game_1 rfl ?_
  refine gm_put K hK hcl 0 (ty := .int) 5 (by decide) q1485 rfl (by decide +kernel) rfl rfl rfl dX4_game_2 rfl (fun μ1 _ => ?_)
  refine g_aloadn K 0 rfl rfl 6 dX4_game_5 rfl ?_
  refine g_iloadn K 1 rfl rfl 7 dX4_game_6 rfl ?_
  refine g_iconst K (nI 1) ic_1 8 dX4_game_7 rfl ?_
  refine g_iconst K (nI 5) ic_5 9 dX4_game_8 rfl ?_
  refine gm_call K hK hcl 12 (ct_isIn μ1 x1 (nI 1) (nI 5)) (lw_V q1723 q1725 qs55 q158 q1726) wd_isIn (by decide) rfl (Nat.le_of_ble_eq_true rfl) dX4_game_9 rfl (fun r2 _ => ?_)
  refine g_if_eq K 15 26 dX4_game_12 rfl (by decide) (fun _ => ?_) (fun _ => ?_)
  · refine g_iconst K (-1 : Int32) ic_m1 27 dX4_game_26 rfl ?_
    exact gm_iret K hK hcl hr hlk dX4_game_27 rfl
  · refine g_aloadn K 0 rfl rfl 16 dX4_game_15 rfl ?_
    refine g_iloadn K 2 rfl rfl 17 dX4_game_16 rfl ?_
    refine g_iconst K (nI 1) ic_1 18 dX4_game_17 rfl ?_
    refine g_bipush K (nI 6) bp_6 20 dX4_game_18 rfl ?_
    refine gm_call K hK hcl 23 (ct_isIn μ1 x2 (nI 1) (nI 6)) (lw_V q1723 q1725 qs55 q158 q1726) wd_isIn (by decide) rfl (Nat.le_of_ble_eq_true rfl) dX4_game_20 rfl (fun r3 _ => ?_)
    refine g_if_ne K 26 28 dX4_game_23 rfl (by decide) (fun _ => ?_) (fun _ => ?_)
    · refine g_iconst K (-1 : Int32) ic_m1 27 dX4_game_26 rfl ?_
      exact gm_iret K hK hcl hr hlk dX4_game_27 rfl
    · refine g_iconst K (nI 0) ic_0 29 dX4_game_28 rfl ?_
      refine g_istoren K [(0, .ref am), (1, .int x1), (2, .int x2), (3, .int (nI 0))] [1, 2, 3, 0] rfl (by decide) rfl 30 dX4_game_29 rfl ?_
      refine g_iconst K (nI 0) ic_0 31 dX4_game_30 rfl ?_
      refine g_istore K [(0, .ref am), (1, .int x1), (2, .int x2), (3, .int (nI 0)), (4, .int (nI 0))] [1, 2, 3, 4, 0] (by decide) rfl 33 dX4_game_31 rfl ?_
      refine g_jn (head := 52) (L := fun j4 => [(0, .ref am), (3, .int j4)]) (sf := fun j4 => []) (mf := fun j4 => μ1) (fun j4 => ?_) (fun k5 h6 => ?_)
      · try dsimp only
        refine g_iconst K (nI 1) ic_1 53 dX4_game_52 rfl ?_
        refine g_istore K [(0, .ref am), (3, .int j4), (4, .int (nI 1))] [1, 2, 0] (by decide) rfl 55 dX4_game_53 rfl ?_
        refine g_jn (head := 100) (L := fun j7 => [(0, .ref am), (3, .int j4)]) (sf := fun j7 => []) (mf := fun j7 => j7) (fun j7 => ?_) (fun k8 h9 => ?_)
        · try dsimp only
          refine g_aloadn K 0 rfl rfl 101 dX4_game_100 rfl ?_
          refine g_iloadn K 1 rfl rfl 102 dX4_game_101 rfl ?_
          refine gm_call K hK hcl 105 (ct_takesSlab j7 j4) (lw_V q2210 q2212 qs142 q158 q2213) wd_takesSlab (by decide) rfl (Nat.le_of_ble_eq_true rfl) dX4_game_102 rfl (fun r10 _ => ?_)
          refine g_aloadn K 0 rfl rfl 106 dX4_game_105 rfl ?_
          refine gm_call K hK hcl 109 (ct_goodBite r10) (lw_V q2218 q2220 qs144 q158 q2221) wd_goodBite (by decide) rfl (Nat.le_of_ble_eq_true rfl) dX4_game_106 rfl (fun r11 _ => ?_)
          exact gm_iret K hK hcl hr hlk dX4_game_109 rfl
        · refine g_lp (head := 55) (L := fun j12 => [(0, .ref am), (3, .int j4), (4, .int j12.1)]) (sf := fun j12 => []) (mf := fun j12 => j12.2) (fun again13 h14 j12 => ?_) fuel ((nI 1), μ1)
          try dsimp only
          refine g_iload K 2 rfl 57 dX4_game_55 rfl ?_
          refine g_iloadn K 1 rfl rfl 58 dX4_game_57 rfl ?_
          refine g_icmp_gt K 61 100 dX4_game_58 rfl (by decide) (fun _ => ?_) (fun _ => ?_)
          · refine g_sub (ls' := [(0, .ref am), (3, .int j4)]) [0, 1] rfl ?_
            exact h9 j12.2
          · refine g_aloadn K 0 rfl rfl 62 dX4_game_61 rfl ?_
            refine g_iload K 2 rfl 64 dX4_game_62 rfl ?_
            refine gm_call K hK hcl 67 (ct_takesSlab j12.2 j12.1) (lw_V q2210 q2212 qs142 q158 q2213) wd_takesSlab (by decide) rfl (Nat.le_of_ble_eq_true rfl) dX4_game_64 rfl (fun r15 _ => ?_)
            refine g_aloadn K 0 rfl rfl 68 dX4_game_67 rfl ?_
            refine gm_get K hK hcl 69 71 (by decide) q1554 rfl dX4_game_68 rfl ?_
            refine g_iload K 2 rfl 73 dX4_game_71 rfl ?_
            refine g_aloadn K 0 rfl rfl 74 dX4_game_73 rfl ?_
            refine gm_call K hK hcl 77 (ct_isSlab r15) (lw_V q2214 q2216 qs143 q158 q2217) wd_isSlab (by decide) rfl (Nat.le_of_ble_eq_true rfl) dX4_game_74 rfl (fun r16 _ => ?_)
            refine g_jn (head := 93) (L := fun j17 => [(0, .ref am), (3, .int j4), (4, .int j12.1)]) (sf := fun j17 => [.int j17, .int j12.1, .ref (am + 42)]) (mf := fun j17 => r15) (fun j17 => ?_) (fun k18 h19 => ?_)
            · try dsimp only
              refine gm_ast K hK hcl 69 42 16807 94 rfl (fun _ => rfl) dX4_game_93 rfl (fun μ20 _ => ?_)
              refine g_iinc K (j12.1 + (nI 1)) 2 [(0, .ref am), (3, .int j4), (4, .int (j12.1 + (nI 1)))] [1, 2, 0] rfl (by rw [ic_1]) (by decide) rfl 97 dX4_game_94 rfl ?_
              refine g_goto K 55 dX4_game_97 (by decide) ?_
              exact h14 ((j12.1 + (nI 1)), μ20)
            · refine g_if_eq K 80 92 dX4_game_77 rfl (by decide) (fun _ => ?_) (fun _ => ?_)
              · refine g_iconst K (nI 0) ic_0 93 dX4_game_92 rfl ?_
                exact h19 (nI 0)
              · refine g_aloadn K 0 rfl rfl 81 dX4_game_80 rfl ?_
                refine gm_call K hK hcl 84 (ct_goodBite r15) (lw_V q2218 q2220 qs144 q158 q2221) wd_goodBite (by decide) rfl (Nat.le_of_ble_eq_true rfl) dX4_game_81 rfl (fun r21 _ => ?_)
                refine g_iconst K (-1 : Int32) ic_m1 85 dX4_game_84 rfl ?_
                refine g_icmp_eq K 88 92 dX4_game_85 rfl (by decide) (fun _ => ?_) (fun _ => ?_)
                · refine g_iconst K (nI 0) ic_0 93 dX4_game_92 rfl ?_
                  exact h19 (nI 0)
                · refine g_iconst K (nI 1) ic_1 89 dX4_game_88 rfl ?_
                  refine g_goto K 93 dX4_game_89 (by decide) ?_
                  exact h19 (nI 1)
      · refine g_lp (head := 33) (L := fun j22 => [(0, .ref am), (1, .int x1), (2, .int x2), (3, .int j22.1), (4, .int j22.2)]) (sf := fun j22 => []) (mf := fun j22 => μ1) (fun again23 h24 j22 => ?_) fuel ((nI 0), (nI 0))
        try dsimp only
        refine g_iload K 4 rfl 35 dX4_game_33 rfl ?_
        refine g_iloadn K 1 rfl rfl 36 dX4_game_35 rfl ?_
        refine g_icmp_ge K 39 52 dX4_game_36 rfl (by decide) (fun _ => ?_) (fun _ => ?_)
        · refine g_sub (ls' := [(0, .ref am), (3, .int j22.1)]) [0, 3] rfl ?_
          exact h6 j22.1
        · refine g_bipush K (nI 7) bp_7 41 dX4_game_39 rfl ?_
          refine g_iloadn K 3 rfl rfl 42 dX4_game_41 rfl ?_
          refine g_imul K 43 dX4_game_42 rfl ?_
          refine g_iloadn K 2 rfl rfl 44 dX4_game_43 rfl ?_
          refine g_iadd K 45 dX4_game_44 rfl ?_
          refine g_nm (fun v25 _ => ?_)
          refine g_istoren K [(0, .ref am), (1, .int x1), (2, .int x2), (3, .int v25), (4, .int j22.2)] [1, 2, 3, 0, 4] rfl (by decide) rfl 46 dX4_game_45 rfl ?_
          refine g_iinc K (j22.2 + (nI 1)) 4 [(0, .ref am), (1, .int x1), (2, .int x2), (3, .int v25), (4, .int (j22.2 + (nI 1)))] [1, 2, 3, 4, 0] rfl (by rw [ic_1]) (by decide) rfl 49 dX4_game_46 rfl ?_
          refine g_goto K 33 dX4_game_49 (by decide) ?_
          exact h24 (v25, (j22.2 + (nI 1)))
/-- keeps(I)I -/
def m_keeps (μ : Mem) (x1 : Int32) : Option (Int32 × Mem) :=
  nm (up2 μ 73 0 ((μ 73 0) + (nI 1))) fun μ1 =>
  if (μ1 71 0) = 0 then
  (rd μ1 74 2400 ((μ1 73 0) - (nI 1))).bind fun v3 =>
  some (v3, μ1)
  else
  (wr μ1 74 2400 ((μ1 73 0) - (nI 1)) x1).bind fun μ2 =>
  some (x1, μ2)
theorem wd_keeps : yX4_keeps.cls = RX4 ∧ yX4_keeps.cls ≠ "java/lang/invoke/MethodHandle" ∧ yX4_keeps.cls ≠ "java/lang/invoke/VarHandle" ∧ (parseMethodDescriptor yX4_keeps.desc).map (fun d => d.parameters.length) = some 1 := by decide +kernel
set_option maxRecDepth 100000 in
theorem ct_keeps (μ : Mem) (x1 : Int32) : CtM yX4_keeps cX4_keeps 2 (some .int) 0 0 [.int x1] μ (fun r => (some (.int r.1), r.2)) (m_keeps μ x1) := by
  refine CtM.of (by decide) rfl (fun _ => Nat.le_of_ble_eq_true rfl) ?_
  intro l D cl ci cA am p e s m args below meth c hcl K hr hlk hK
  refine g_sub (ls' := [(0, .ref am), (1, .int x1)]) [0, 1] rfl ?_
  unfold m_keeps
  refine g_aloadn K 0 rfl rfl 1 dX4_keeps_0 rfl ?_
  refine g_aloadn K 0 rfl rfl 2 dX4_keeps_1 rfl ?_
  refine gm_get K hK hcl 73 5 (by decide) q1558 rfl dX4_keeps_2 rfl ?_
  refine g_iconst K (nI 1) ic_1 6 dX4_keeps_5 rfl ?_
  refine g_iadd K 7 dX4_keeps_6 rfl ?_
  refine gm_put K hK hcl 73 (ty := .int) 10 (by decide) q1558 rfl (by decide +kernel) rfl rfl rfl dX4_keeps_7 rfl (fun μ1 _ => ?_)
  refine g_aloadn K 0 rfl rfl 11 dX4_keeps_10 rfl ?_
  refine gm_get K hK hcl 71 14 (by decide) q1556 rfl dX4_keeps_11 rfl ?_
  refine g_if_ne K 17 29 dX4_keeps_14 rfl (by decide) (fun _ => ?_) (fun _ => ?_)
  · refine g_aloadn K 0 rfl rfl 18 dX4_keeps_17 rfl ?_
    refine gm_get K hK hcl 74 21 (by decide) q1559 rfl dX4_keeps_18 rfl ?_
    refine g_aloadn K 0 rfl rfl 22 dX4_keeps_21 rfl ?_
    refine gm_get K hK hcl 73 25 (by decide) q1558 rfl dX4_keeps_22 rfl ?_
    refine g_iconst K (nI 1) ic_1 26 dX4_keeps_25 rfl ?_
    refine g_isub K 27 dX4_keeps_26 rfl ?_
    refine gm_ald K hK hcl 74 44 2400 28 rfl dX4_keeps_27 rfl (fun v3 _ => ?_)
    exact gm_iret K hK hcl hr hlk dX4_keeps_28 rfl
  · refine g_aloadn K 0 rfl rfl 30 dX4_keeps_29 rfl ?_
    refine gm_get K hK hcl 74 33 (by decide) q1559 rfl dX4_keeps_30 rfl ?_
    refine g_aloadn K 0 rfl rfl 34 dX4_keeps_33 rfl ?_
    refine gm_get K hK hcl 73 37 (by decide) q1558 rfl dX4_keeps_34 rfl ?_
    refine g_iconst K (nI 1) ic_1 38 dX4_keeps_37 rfl ?_
    refine g_isub K 39 dX4_keeps_38 rfl ?_
    refine g_iloadn K 1 rfl rfl 40 dX4_keeps_39 rfl ?_
    refine gm_ast K hK hcl 74 44 2400 41 rfl (fun _ => rfl) dX4_keeps_40 rfl (fun μ2 _ => ?_)
    refine g_iloadn K 1 rfl rfl 42 dX4_keeps_41 rfl ?_
    exact gm_iret K hK hcl hr hlk dX4_keeps_42 rfl
/-- keepsMany()V -/
def m_keepsMany (μ : Mem) : Option (Mem) :=
  (m_keeps μ (μ 6 0)).bind fun r1 =>
  nm (up2 r1.2 6 0 r1.1) fun μ2 =>
  (m_keeps μ2 (μ2 33 0)).bind fun r3 =>
  nm (up2 r3.2 33 0 r3.1) fun μ4 =>
  (m_keeps μ4 (μ4 35 0)).bind fun r5 =>
  nm (up2 r5.2 35 0 r5.1) fun μ6 =>
  (m_keeps μ6 (μ6 37 0)).bind fun r7 =>
  nm (up2 r7.2 37 0 r7.1) fun μ8 =>
  (m_keeps μ8 (μ8 42 0)).bind fun r9 =>
  nm (up2 r9.2 42 0 r9.1) fun μ10 =>
  (m_keeps μ10 (μ10 45 0)).bind fun r11 =>
  nm (up2 r11.2 45 0 r11.1) fun μ12 =>
  (m_keeps μ12 (μ12 49 0)).bind fun r13 =>
  nm (up2 r13.2 49 0 r13.1) fun μ14 =>
  (m_keeps μ14 (μ14 51 0)).bind fun r15 =>
  nm (up2 r15.2 51 0 r15.1) fun μ16 =>
  (m_keeps μ16 (μ16 54 0)).bind fun r17 =>
  nm (up2 r17.2 54 0 r17.1) fun μ18 =>
  (m_keeps μ18 (μ18 57 0)).bind fun r19 =>
  nm (up2 r19.2 57 0 r19.1) fun μ20 =>
  (m_keeps μ20 (μ20 62 0)).bind fun r21 =>
  nm (up2 r21.2 62 0 r21.1) fun μ22 =>
  (m_keeps μ22 (μ22 66 0)).bind fun r23 =>
  nm (up2 r23.2 66 0 r23.1) fun μ24 =>
  some μ24
theorem wd_keepsMany : yX4_keepsMany.cls = RX4 ∧ yX4_keepsMany.cls ≠ "java/lang/invoke/MethodHandle" ∧ yX4_keepsMany.cls ≠ "java/lang/invoke/VarHandle" ∧ (parseMethodDescriptor yX4_keepsMany.desc).map (fun d => d.parameters.length) = some 0 := by decide +kernel
set_option maxRecDepth 100000 in
theorem ct_keepsMany (μ : Mem) : CtM yX4_keepsMany cX4_keepsMany 1 none 1 21 [] μ (fun r => (none, r)) (m_keepsMany μ) := by
  refine CtM.of (by decide) rfl (fun _ => Nat.le_of_ble_eq_true rfl) ?_
  intro l D cl ci cA am p e s m args below meth c hcl K hr hlk hK
  refine g_sub (ls' := [(0, .ref am)]) [0] rfl ?_
  unfold m_keepsMany
  refine g_aloadn K 0 rfl rfl 1 dX4_keepsMany_0 rfl ?_
  refine g_aloadn K 0 rfl rfl 2 dX4_keepsMany_1 rfl ?_
  refine g_aloadn K 0 rfl rfl 3 dX4_keepsMany_2 rfl ?_
  refine gm_get K hK hcl 6 6 (by decide) q1491 rfl dX4_keepsMany_3 rfl ?_
  refine gm_call K hK hcl 9 (ct_keeps μ (μ 6 0)) (lw_V q2230 q2232 qs146 q158 q2233) wd_keeps (by decide) rfl (Nat.le_of_ble_eq_true rfl) dX4_keepsMany_6 rfl (fun r1 _ => ?_)
  refine gm_put K hK hcl 6 (ty := .int) 12 (by decide) q1491 rfl (by decide +kernel) rfl rfl rfl dX4_keepsMany_9 rfl (fun μ2 _ => ?_)
  refine g_aloadn K 0 rfl rfl 13 dX4_keepsMany_12 rfl ?_
  refine g_aloadn K 0 rfl rfl 14 dX4_keepsMany_13 rfl ?_
  refine g_aloadn K 0 rfl rfl 15 dX4_keepsMany_14 rfl ?_
  refine gm_get K hK hcl 33 18 (by decide) q1518 rfl dX4_keepsMany_15 rfl ?_
  refine gm_call K hK hcl 21 (ct_keeps μ2 (μ2 33 0)) (lw_V q2230 q2232 qs146 q158 q2233) wd_keeps (by decide) rfl (Nat.le_of_ble_eq_true rfl) dX4_keepsMany_18 rfl (fun r3 _ => ?_)
  refine gm_put K hK hcl 33 (ty := .int) 24 (by decide) q1518 rfl (by decide +kernel) rfl rfl rfl dX4_keepsMany_21 rfl (fun μ4 _ => ?_)
  refine g_aloadn K 0 rfl rfl 25 dX4_keepsMany_24 rfl ?_
  refine g_aloadn K 0 rfl rfl 26 dX4_keepsMany_25 rfl ?_
  refine g_aloadn K 0 rfl rfl 27 dX4_keepsMany_26 rfl ?_
  refine gm_get K hK hcl 35 30 (by decide) q1520 rfl dX4_keepsMany_27 rfl ?_
  refine gm_call K hK hcl 33 (ct_keeps μ4 (μ4 35 0)) (lw_V q2230 q2232 qs146 q158 q2233) wd_keeps (by decide) rfl (Nat.le_of_ble_eq_true rfl) dX4_keepsMany_30 rfl (fun r5 _ => ?_)
  refine gm_put K hK hcl 35 (ty := .int) 36 (by decide) q1520 rfl (by decide +kernel) rfl rfl rfl dX4_keepsMany_33 rfl (fun μ6 _ => ?_)
  refine g_aloadn K 0 rfl rfl 37 dX4_keepsMany_36 rfl ?_
  refine g_aloadn K 0 rfl rfl 38 dX4_keepsMany_37 rfl ?_
  refine g_aloadn K 0 rfl rfl 39 dX4_keepsMany_38 rfl ?_
  refine gm_get K hK hcl 37 42 (by decide) q1522 rfl dX4_keepsMany_39 rfl ?_
  refine gm_call K hK hcl 45 (ct_keeps μ6 (μ6 37 0)) (lw_V q2230 q2232 qs146 q158 q2233) wd_keeps (by decide) rfl (Nat.le_of_ble_eq_true rfl) dX4_keepsMany_42 rfl (fun r7 _ => ?_)
  refine gm_put K hK hcl 37 (ty := .int) 48 (by decide) q1522 rfl (by decide +kernel) rfl rfl rfl dX4_keepsMany_45 rfl (fun μ8 _ => ?_)
  refine g_aloadn K 0 rfl rfl 49 dX4_keepsMany_48 rfl ?_
  refine g_aloadn K 0 rfl rfl 50 dX4_keepsMany_49 rfl ?_
  refine g_aloadn K 0 rfl rfl 51 dX4_keepsMany_50 rfl ?_
  refine gm_get K hK hcl 42 54 (by decide) q1527 rfl dX4_keepsMany_51 rfl ?_
  refine gm_call K hK hcl 57 (ct_keeps μ8 (μ8 42 0)) (lw_V q2230 q2232 qs146 q158 q2233) wd_keeps (by decide) rfl (Nat.le_of_ble_eq_true rfl) dX4_keepsMany_54 rfl (fun r9 _ => ?_)
  refine gm_put K hK hcl 42 (ty := .int) 60 (by decide) q1527 rfl (by decide +kernel) rfl rfl rfl dX4_keepsMany_57 rfl (fun μ10 _ => ?_)
  refine g_aloadn K 0 rfl rfl 61 dX4_keepsMany_60 rfl ?_
  refine g_aloadn K 0 rfl rfl 62 dX4_keepsMany_61 rfl ?_
  refine g_aloadn K 0 rfl rfl 63 dX4_keepsMany_62 rfl ?_
  refine gm_get K hK hcl 45 66 (by decide) q1530 rfl dX4_keepsMany_63 rfl ?_
  refine gm_call K hK hcl 69 (ct_keeps μ10 (μ10 45 0)) (lw_V q2230 q2232 qs146 q158 q2233) wd_keeps (by decide) rfl (Nat.le_of_ble_eq_true rfl) dX4_keepsMany_66 rfl (fun r11 _ => ?_)
  refine gm_put K hK hcl 45 (ty := .int) 72 (by decide) q1530 rfl (by decide +kernel) rfl rfl rfl dX4_keepsMany_69 rfl (fun μ12 _ => ?_)
  refine g_aloadn K 0 rfl rfl 73 dX4_keepsMany_72 rfl ?_
  refine g_aloadn K 0 rfl rfl 74 dX4_keepsMany_73 rfl ?_
  refine g_aloadn K 0 rfl rfl 75 dX4_keepsMany_74 rfl ?_
  refine gm_get K hK hcl 49 78 (by decide) q1534 rfl dX4_keepsMany_75 rfl ?_
  refine gm_call K hK hcl 81 (ct_keeps μ12 (μ12 49 0)) (lw_V q2230 q2232 qs146 q158 q2233) wd_keeps (by decide) rfl (Nat.le_of_ble_eq_true rfl) dX4_keepsMany_78 rfl (fun r13 _ => ?_)
  refine gm_put K hK hcl 49 (ty := .int) 84 (by decide) q1534 rfl (by decide +kernel) rfl rfl rfl dX4_keepsMany_81 rfl (fun μ14 _ => ?_)
  refine g_aloadn K 0 rfl rfl 85 dX4_keepsMany_84 rfl ?_
  refine g_aloadn K 0 rfl rfl 86 dX4_keepsMany_85 rfl ?_
  refine g_aloadn K 0 rfl rfl 87 dX4_keepsMany_86 rfl ?_
  refine gm_get K hK hcl 51 90 (by decide) q1536 rfl dX4_keepsMany_87 rfl ?_
  refine gm_call K hK hcl 93 (ct_keeps μ14 (μ14 51 0)) (lw_V q2230 q2232 qs146 q158 q2233) wd_keeps (by decide) rfl (Nat.le_of_ble_eq_true rfl) dX4_keepsMany_90 rfl (fun r15 _ => ?_)
  refine gm_put K hK hcl 51 (ty := .int) 96 (by decide) q1536 rfl (by decide +kernel) rfl rfl rfl dX4_keepsMany_93 rfl (fun μ16 _ => ?_)
  refine g_aloadn K 0 rfl rfl 97 dX4_keepsMany_96 rfl ?_
  refine g_aloadn K 0 rfl rfl 98 dX4_keepsMany_97 rfl ?_
  refine g_aloadn K 0 rfl rfl 99 dX4_keepsMany_98 rfl ?_
  refine gm_get K hK hcl 54 102 (by decide) q1539 rfl dX4_keepsMany_99 rfl ?_
  refine gm_call K hK hcl 105 (ct_keeps μ16 (μ16 54 0)) (lw_V q2230 q2232 qs146 q158 q2233) wd_keeps (by decide) rfl (Nat.le_of_ble_eq_true rfl) dX4_keepsMany_102 rfl (fun r17 _ => ?_)
  refine gm_put K hK hcl 54 (ty := .int) 108 (by decide) q1539 rfl (by decide +kernel) rfl rfl rfl dX4_keepsMany_105 rfl (fun μ18 _ => ?_)
  refine g_aloadn K 0 rfl rfl 109 dX4_keepsMany_108 rfl ?_
  refine g_aloadn K 0 rfl rfl 110 dX4_keepsMany_109 rfl ?_
  refine g_aloadn K 0 rfl rfl 111 dX4_keepsMany_110 rfl ?_
  refine gm_get K hK hcl 57 114 (by decide) q1542 rfl dX4_keepsMany_111 rfl ?_
  refine gm_call K hK hcl 117 (ct_keeps μ18 (μ18 57 0)) (lw_V q2230 q2232 qs146 q158 q2233) wd_keeps (by decide) rfl (Nat.le_of_ble_eq_true rfl) dX4_keepsMany_114 rfl (fun r19 _ => ?_)
  refine gm_put K hK hcl 57 (ty := .int) 120 (by decide) q1542 rfl (by decide +kernel) rfl rfl rfl dX4_keepsMany_117 rfl (fun μ20 _ => ?_)
  refine g_aloadn K 0 rfl rfl 121 dX4_keepsMany_120 rfl ?_
  refine g_aloadn K 0 rfl rfl 122 dX4_keepsMany_121 rfl ?_
  refine g_aloadn K 0 rfl rfl 123 dX4_keepsMany_122 rfl ?_
  refine gm_get K hK hcl 62 126 (by decide) q1547 rfl dX4_keepsMany_123 rfl ?_
  refine gm_call K hK hcl 129 (ct_keeps μ20 (μ20 62 0)) (lw_V q2230 q2232 qs146 q158 q2233) wd_keeps (by decide) rfl (Nat.le_of_ble_eq_true rfl) dX4_keepsMany_126 rfl (fun r21 _ => ?_)
  refine gm_put K hK hcl 62 (ty := .int) 132 (by decide) q1547 rfl (by decide +kernel) rfl rfl rfl dX4_keepsMany_129 rfl (fun μ22 _ => ?_)
  refine g_aloadn K 0 rfl rfl 133 dX4_keepsMany_132 rfl ?_
  refine g_aloadn K 0 rfl rfl 134 dX4_keepsMany_133 rfl ?_
  refine g_aloadn K 0 rfl rfl 135 dX4_keepsMany_134 rfl ?_
  refine gm_get K hK hcl 66 138 (by decide) q1551 rfl dX4_keepsMany_135 rfl ?_
  refine gm_call K hK hcl 141 (ct_keeps μ22 (μ22 66 0)) (lw_V q2230 q2232 qs146 q158 q2233) wd_keeps (by decide) rfl (Nat.le_of_ble_eq_true rfl) dX4_keepsMany_138 rfl (fun r23 _ => ?_)
  refine gm_put K hK hcl 66 (ty := .int) 144 (by decide) q1551 rfl (by decide +kernel) rfl rfl rfl dX4_keepsMany_141 rfl (fun μ24 _ => ?_)
  exact gm_vret K hK hcl hr hlk dX4_keepsMany_144 rfl
/-- keepsTold()V -/
def m_keepsTold (μ : Mem) : Option (Mem) :=
  jn (fun (j1 : Mem) =>
  jn (fun (j4 : Mem) =>
  jn (fun (j7 : Mem) =>
  jn (fun (j10 : Mem) =>
  jn (fun (j13 : Mem) =>
  jn (fun (j16 : Mem) =>
  jn (fun (j19 : Mem) =>
  lp (fun again23 (j22 : Int32 × Mem) =>
  if (nI 80) ≤ j22.1 then
  some j22.2
  else
  (rd j22.2 36 160 j22.1).bind fun v25 =>
  (m_keeps j22.2 v25).bind fun r26 =>
  (wr r26.2 36 160 j22.1 r26.1).bind fun μ27 =>
  again23 ((j22.1 + (nI 1)), μ27)) fuel ((nI 0), j19)) (fun k20 =>
  lp (fun again29 (j28 : Int32 × Mem) =>
  if (nI 48) ≤ j28.1 then
  k20 j28.2
  else
  (rd j28.2 34 96 j28.1).bind fun v31 =>
  (m_keeps j28.2 v31).bind fun r32 =>
  (wr r32.2 34 96 j28.1 r32.1).bind fun μ33 =>
  again29 ((j28.1 + (nI 1)), μ33)) fuel ((nI 0), j16))) (fun k17 =>
  lp (fun again35 (j34 : Int32 × Mem) =>
  if (nI 6) ≤ j34.1 then
  k17 j34.2
  else
  (rd j34.2 58 6 j34.1).bind fun v37 =>
  (m_keeps j34.2 v37).bind fun r38 =>
  (wr r38.2 58 6 j34.1 r38.1).bind fun μ39 =>
  (rd μ39 59 6 j34.1).bind fun v40 =>
  (m_keeps μ39 v40).bind fun r41 =>
  (wr r41.2 59 6 j34.1 r41.1).bind fun μ42 =>
  again35 ((j34.1 + (nI 1)), μ42)) fuel ((nI 0), j13))) (fun k14 =>
  lp (fun again44 (j43 : Int32 × Mem) =>
  if (nI 16) ≤ j43.1 then
  k14 j43.2
  else
  (rd j43.2 55 16 j43.1).bind fun v46 =>
  (m_keeps j43.2 v46).bind fun r47 =>
  (wr r47.2 55 16 j43.1 r47.1).bind fun μ48 =>
  again44 ((j43.1 + (nI 1)), μ48)) fuel ((nI 0), j10))) (fun k11 =>
  lp (fun again50 (j49 : Int32 × Mem) =>
  if (nI 5) ≤ j49.1 then
  k11 j49.2
  else
  (rd j49.2 50 5 j49.1).bind fun v52 =>
  (m_keeps j49.2 v52).bind fun r53 =>
  (wr r53.2 50 5 j49.1 r53.1).bind fun μ54 =>
  again50 ((j49.1 + (nI 1)), μ54)) fuel ((nI 0), j7))) (fun k8 =>
  lp (fun again56 (j55 : Int32 × Mem) =>
  if (nI 8) ≤ j55.1 then
  k8 j55.2
  else
  (rd j55.2 46 8 j55.1).bind fun v58 =>
  (m_keeps j55.2 v58).bind fun r59 =>
  (wr r59.2 46 8 j55.1 r59.1).bind fun μ60 =>
  (rd μ60 52 8 j55.1).bind fun v61 =>
  (m_keeps μ60 v61).bind fun r62 =>
  (wr r62.2 52 8 j55.1 r62.1).bind fun μ63 =>
  (rd μ63 53 8 j55.1).bind fun v64 =>
  (m_keeps μ63 v64).bind fun r65 =>
  (wr r65.2 53 8 j55.1 r65.1).bind fun μ66 =>
  (rd μ66 67 8 j55.1).bind fun v67 =>
  (m_keeps μ66 v67).bind fun r68 =>
  (wr r68.2 67 8 j55.1 r68.1).bind fun μ69 =>
  (rd μ69 68 8 j55.1).bind fun v70 =>
  (m_keeps μ69 v70).bind fun r71 =>
  (wr r71.2 68 8 j55.1 r71.1).bind fun μ72 =>
  again56 ((j55.1 + (nI 1)), μ72)) fuel ((nI 0), j4))) (fun k5 =>
  lp (fun again74 (j73 : Int32 × Mem) =>
  if (nI 9) ≤ j73.1 then
  k5 j73.2
  else
  (rd j73.2 43 9 j73.1).bind fun v76 =>
  (m_keeps j73.2 v76).bind fun r77 =>
  (wr r77.2 43 9 j73.1 r77.1).bind fun μ78 =>
  again74 ((j73.1 + (nI 1)), μ78)) fuel ((nI 0), j1))) (fun k2 =>
  lp (fun again80 (j79 : Int32 × Mem) =>
  if (nI 12) ≤ j79.1 then
  k2 j79.2
  else
  (rd j79.2 7 12 j79.1).bind fun v82 =>
  (m_keeps j79.2 v82).bind fun r83 =>
  (wr r83.2 7 12 j79.1 r83.1).bind fun μ84 =>
  (rd μ84 8 12 j79.1).bind fun v85 =>
  (m_keeps μ84 v85).bind fun r86 =>
  (wr r86.2 8 12 j79.1 r86.1).bind fun μ87 =>
  (rd μ87 38 24 j79.1).bind fun v88 =>
  (m_keeps μ87 v88).bind fun r89 =>
  (wr r89.2 38 24 j79.1 r89.1).bind fun μ90 =>
  (rd μ90 63 12 j79.1).bind fun v91 =>
  (m_keeps μ90 v91).bind fun r92 =>
  (wr r92.2 63 12 j79.1 r92.1).bind fun μ93 =>
  again80 ((j79.1 + (nI 1)), μ93)) fuel ((nI 0), μ))
theorem wd_keepsTold : yX4_keepsTold.cls = RX4 ∧ yX4_keepsTold.cls ≠ "java/lang/invoke/MethodHandle" ∧ yX4_keepsTold.cls ≠ "java/lang/invoke/VarHandle" ∧ (parseMethodDescriptor yX4_keepsTold.desc).map (fun d => d.parameters.length) = some 0 := by decide +kernel
set_option maxRecDepth 100000 in
theorem ct_keepsTold (μ : Mem) : CtM yX4_keepsTold cX4_keepsTold 2 none 1 21 [] μ (fun r => (none, r)) (m_keepsTold μ) := by
  refine CtM.of (by decide) rfl (fun _ => Nat.le_of_ble_eq_true rfl) ?_
  intro l D cl ci cA am p e s m args below meth c hcl K hr hlk hK
  refine g_sub (ls' := [(0, .ref am)]) [0] rfl ?_
  unfold m_keepsTold
  refine g_iconst K (nI 0) ic_0 1 dX4_keepsTold_0 rfl ?_
  refine g_istoren K [(0, .ref am), (1, .int (nI 0))] [1, 0] rfl (by decide) rfl 2 dX4_keepsTold_1 rfl ?_
  refine g_jn (head := 78) (L := fun j1 => [(0, .ref am)]) (sf := fun j1 => []) (mf := fun j1 => j1) (fun j1 => ?_) (fun k2 h3 => ?_)
  · try dsimp only
    refine g_iconst K (nI 0) ic_0 79 dX4_keepsTold_78 rfl ?_
    refine g_istoren K [(0, .ref am), (1, .int (nI 0))] [1, 0] rfl (by decide) rfl 80 dX4_keepsTold_79 rfl ?_
    refine g_jn (head := 108) (L := fun j4 => [(0, .ref am)]) (sf := fun j4 => []) (mf := fun j4 => j4) (fun j4 => ?_) (fun k5 h6 => ?_)
    · try dsimp only
      refine g_iconst K (nI 0) ic_0 109 dX4_keepsTold_108 rfl ?_
      refine g_istoren K [(0, .ref am), (1, .int (nI 0))] [1, 0] rfl (by decide) rfl 110 dX4_keepsTold_109 rfl ?_
      refine g_jn (head := 202) (L := fun j7 => [(0, .ref am)]) (sf := fun j7 => []) (mf := fun j7 => j7) (fun j7 => ?_) (fun k8 h9 => ?_)
      · try dsimp only
        refine g_iconst K (nI 0) ic_0 203 dX4_keepsTold_202 rfl ?_
        refine g_istoren K [(0, .ref am), (1, .int (nI 0))] [1, 0] rfl (by decide) rfl 204 dX4_keepsTold_203 rfl ?_
        refine g_jn (head := 231) (L := fun j10 => [(0, .ref am)]) (sf := fun j10 => []) (mf := fun j10 => j10) (fun j10 => ?_) (fun k11 h12 => ?_)
        · try dsimp only
          refine g_iconst K (nI 0) ic_0 232 dX4_keepsTold_231 rfl ?_
          refine g_istoren K [(0, .ref am), (1, .int (nI 0))] [1, 0] rfl (by decide) rfl 233 dX4_keepsTold_232 rfl ?_
          refine g_jn (head := 261) (L := fun j13 => [(0, .ref am)]) (sf := fun j13 => []) (mf := fun j13 => j13) (fun j13 => ?_) (fun k14 h15 => ?_)
          · try dsimp only
            refine g_iconst K (nI 0) ic_0 262 dX4_keepsTold_261 rfl ?_
            refine g_istoren K [(0, .ref am), (1, .int (nI 0))] [1, 0] rfl (by decide) rfl 263 dX4_keepsTold_262 rfl ?_
            refine g_jn (head := 307) (L := fun j16 => [(0, .ref am)]) (sf := fun j16 => []) (mf := fun j16 => j16) (fun j16 => ?_) (fun k17 h18 => ?_)
            · try dsimp only
              refine g_iconst K (nI 0) ic_0 308 dX4_keepsTold_307 rfl ?_
              refine g_istoren K [(0, .ref am), (1, .int (nI 0))] [1, 0] rfl (by decide) rfl 309 dX4_keepsTold_308 rfl ?_
              refine g_jn (head := 337) (L := fun j19 => [(0, .ref am)]) (sf := fun j19 => []) (mf := fun j19 => j19) (fun j19 => ?_) (fun k20 h21 => ?_)
              · try dsimp only
                refine g_iconst K (nI 0) ic_0 338 dX4_keepsTold_337 rfl ?_
                refine g_istoren K [(0, .ref am), (1, .int (nI 0))] [1, 0] rfl (by decide) rfl 339 dX4_keepsTold_338 rfl ?_
                refine g_lp (head := 339) (L := fun j22 => [(0, .ref am), (1, .int j22.1)]) (sf := fun j22 => []) (mf := fun j22 => j22.2) (fun again23 h24 j22 => ?_) fuel ((nI 0), j19)
                try dsimp only
                refine g_iloadn K 1 rfl rfl 340 dX4_keepsTold_339 rfl ?_
                refine g_bipush K (nI 80) bp_80 342 dX4_keepsTold_340 rfl ?_
                refine g_icmp_ge K 345 367 dX4_keepsTold_342 rfl (by decide) (fun _ => ?_) (fun _ => ?_)
                · exact gm_vret K hK hcl hr hlk dX4_keepsTold_367 rfl
                · refine g_aloadn K 0 rfl rfl 346 dX4_keepsTold_345 rfl ?_
                  refine gm_get K hK hcl 36 349 (by decide) q1521 rfl dX4_keepsTold_346 rfl ?_
                  refine g_iloadn K 1 rfl rfl 350 dX4_keepsTold_349 rfl ?_
                  refine g_aloadn K 0 rfl rfl 351 dX4_keepsTold_350 rfl ?_
                  refine g_aloadn K 0 rfl rfl 352 dX4_keepsTold_351 rfl ?_
                  refine gm_get K hK hcl 36 355 (by decide) q1521 rfl dX4_keepsTold_352 rfl ?_
                  refine g_iloadn K 1 rfl rfl 356 dX4_keepsTold_355 rfl ?_
                  refine gm_ald K hK hcl 36 18 160 357 rfl dX4_keepsTold_356 rfl (fun v25 _ => ?_)
                  refine gm_call K hK hcl 360 (ct_keeps j22.2 v25) (lw_V q2230 q2232 qs146 q158 q2233) wd_keeps (by decide) rfl (Nat.le_of_ble_eq_true rfl) dX4_keepsTold_357 rfl (fun r26 _ => ?_)
                  refine gm_ast K hK hcl 36 18 160 361 rfl (fun _ => rfl) dX4_keepsTold_360 rfl (fun μ27 _ => ?_)
                  refine g_iinc K (j22.1 + (nI 1)) 1 [(0, .ref am), (1, .int (j22.1 + (nI 1)))] [1, 0] rfl (by rw [ic_1]) (by decide) rfl 364 dX4_keepsTold_361 rfl ?_
                  refine g_goto K 339 dX4_keepsTold_364 (by decide) ?_
                  exact h24 ((j22.1 + (nI 1)), μ27)
              · refine g_lp (head := 309) (L := fun j28 => [(0, .ref am), (1, .int j28.1)]) (sf := fun j28 => []) (mf := fun j28 => j28.2) (fun again29 h30 j28 => ?_) fuel ((nI 0), j16)
                try dsimp only
                refine g_iloadn K 1 rfl rfl 310 dX4_keepsTold_309 rfl ?_
                refine g_bipush K (nI 48) bp_48 312 dX4_keepsTold_310 rfl ?_
                refine g_icmp_ge K 315 337 dX4_keepsTold_312 rfl (by decide) (fun _ => ?_) (fun _ => ?_)
                · refine g_sub (ls' := [(0, .ref am)]) [0] rfl ?_
                  exact h21 j28.2
                · refine g_aloadn K 0 rfl rfl 316 dX4_keepsTold_315 rfl ?_
                  refine gm_get K hK hcl 34 319 (by decide) q1519 rfl dX4_keepsTold_316 rfl ?_
                  refine g_iloadn K 1 rfl rfl 320 dX4_keepsTold_319 rfl ?_
                  refine g_aloadn K 0 rfl rfl 321 dX4_keepsTold_320 rfl ?_
                  refine g_aloadn K 0 rfl rfl 322 dX4_keepsTold_321 rfl ?_
                  refine gm_get K hK hcl 34 325 (by decide) q1519 rfl dX4_keepsTold_322 rfl ?_
                  refine g_iloadn K 1 rfl rfl 326 dX4_keepsTold_325 rfl ?_
                  refine gm_ald K hK hcl 34 17 96 327 rfl dX4_keepsTold_326 rfl (fun v31 _ => ?_)
                  refine gm_call K hK hcl 330 (ct_keeps j28.2 v31) (lw_V q2230 q2232 qs146 q158 q2233) wd_keeps (by decide) rfl (Nat.le_of_ble_eq_true rfl) dX4_keepsTold_327 rfl (fun r32 _ => ?_)
                  refine gm_ast K hK hcl 34 17 96 331 rfl (fun _ => rfl) dX4_keepsTold_330 rfl (fun μ33 _ => ?_)
                  refine g_iinc K (j28.1 + (nI 1)) 1 [(0, .ref am), (1, .int (j28.1 + (nI 1)))] [1, 0] rfl (by rw [ic_1]) (by decide) rfl 334 dX4_keepsTold_331 rfl ?_
                  refine g_goto K 309 dX4_keepsTold_334 (by decide) ?_
                  exact h30 ((j28.1 + (nI 1)), μ33)
            · refine g_lp (head := 263) (L := fun j34 => [(0, .ref am), (1, .int j34.1)]) (sf := fun j34 => []) (mf := fun j34 => j34.2) (fun again35 h36 j34 => ?_) fuel ((nI 0), j13)
              try dsimp only
              refine g_iloadn K 1 rfl rfl 264 dX4_keepsTold_263 rfl ?_
              refine g_bipush K (nI 6) bp_6 266 dX4_keepsTold_264 rfl ?_
              refine g_icmp_ge K 269 307 dX4_keepsTold_266 rfl (by decide) (fun _ => ?_) (fun _ => ?_)
              · refine g_sub (ls' := [(0, .ref am)]) [0] rfl ?_
                exact h18 j34.2
              · refine g_aloadn K 0 rfl rfl 270 dX4_keepsTold_269 rfl ?_
                refine gm_get K hK hcl 58 273 (by decide) q1543 rfl dX4_keepsTold_270 rfl ?_
                refine g_iloadn K 1 rfl rfl 274 dX4_keepsTold_273 rfl ?_
                refine g_aloadn K 0 rfl rfl 275 dX4_keepsTold_274 rfl ?_
                refine g_aloadn K 0 rfl rfl 276 dX4_keepsTold_275 rfl ?_
                refine gm_get K hK hcl 58 279 (by decide) q1543 rfl dX4_keepsTold_276 rfl ?_
                refine g_iloadn K 1 rfl rfl 280 dX4_keepsTold_279 rfl ?_
                refine gm_ald K hK hcl 58 33 6 281 rfl dX4_keepsTold_280 rfl (fun v37 _ => ?_)
                refine gm_call K hK hcl 284 (ct_keeps j34.2 v37) (lw_V q2230 q2232 qs146 q158 q2233) wd_keeps (by decide) rfl (Nat.le_of_ble_eq_true rfl) dX4_keepsTold_281 rfl (fun r38 _ => ?_)
                refine gm_ast K hK hcl 58 33 6 285 rfl (fun _ => rfl) dX4_keepsTold_284 rfl (fun μ39 _ => ?_)
                refine g_aloadn K 0 rfl rfl 286 dX4_keepsTold_285 rfl ?_
                refine gm_get K hK hcl 59 289 (by decide) q1544 rfl dX4_keepsTold_286 rfl ?_
                refine g_iloadn K 1 rfl rfl 290 dX4_keepsTold_289 rfl ?_
                refine g_aloadn K 0 rfl rfl 291 dX4_keepsTold_290 rfl ?_
                refine g_aloadn K 0 rfl rfl 292 dX4_keepsTold_291 rfl ?_
                refine gm_get K hK hcl 59 295 (by decide) q1544 rfl dX4_keepsTold_292 rfl ?_
                refine g_iloadn K 1 rfl rfl 296 dX4_keepsTold_295 rfl ?_
                refine gm_ald K hK hcl 59 34 6 297 rfl dX4_keepsTold_296 rfl (fun v40 _ => ?_)
                refine gm_call K hK hcl 300 (ct_keeps μ39 v40) (lw_V q2230 q2232 qs146 q158 q2233) wd_keeps (by decide) rfl (Nat.le_of_ble_eq_true rfl) dX4_keepsTold_297 rfl (fun r41 _ => ?_)
                refine gm_ast K hK hcl 59 34 6 301 rfl (fun _ => rfl) dX4_keepsTold_300 rfl (fun μ42 _ => ?_)
                refine g_iinc K (j34.1 + (nI 1)) 1 [(0, .ref am), (1, .int (j34.1 + (nI 1)))] [1, 0] rfl (by rw [ic_1]) (by decide) rfl 304 dX4_keepsTold_301 rfl ?_
                refine g_goto K 263 dX4_keepsTold_304 (by decide) ?_
                exact h36 ((j34.1 + (nI 1)), μ42)
          · refine g_lp (head := 233) (L := fun j43 => [(0, .ref am), (1, .int j43.1)]) (sf := fun j43 => []) (mf := fun j43 => j43.2) (fun again44 h45 j43 => ?_) fuel ((nI 0), j10)
            try dsimp only
            refine g_iloadn K 1 rfl rfl 234 dX4_keepsTold_233 rfl ?_
            refine g_bipush K (nI 16) bp_16 236 dX4_keepsTold_234 rfl ?_
            refine g_icmp_ge K 239 261 dX4_keepsTold_236 rfl (by decide) (fun _ => ?_) (fun _ => ?_)
            · refine g_sub (ls' := [(0, .ref am)]) [0] rfl ?_
              exact h15 j43.2
            · refine g_aloadn K 0 rfl rfl 240 dX4_keepsTold_239 rfl ?_
              refine gm_get K hK hcl 55 243 (by decide) q1540 rfl dX4_keepsTold_240 rfl ?_
              refine g_iloadn K 1 rfl rfl 244 dX4_keepsTold_243 rfl ?_
              refine g_aloadn K 0 rfl rfl 245 dX4_keepsTold_244 rfl ?_
              refine g_aloadn K 0 rfl rfl 246 dX4_keepsTold_245 rfl ?_
              refine gm_get K hK hcl 55 249 (by decide) q1540 rfl dX4_keepsTold_246 rfl ?_
              refine g_iloadn K 1 rfl rfl 250 dX4_keepsTold_249 rfl ?_
              refine gm_ald K hK hcl 55 31 16 251 rfl dX4_keepsTold_250 rfl (fun v46 _ => ?_)
              refine gm_call K hK hcl 254 (ct_keeps j43.2 v46) (lw_V q2230 q2232 qs146 q158 q2233) wd_keeps (by decide) rfl (Nat.le_of_ble_eq_true rfl) dX4_keepsTold_251 rfl (fun r47 _ => ?_)
              refine gm_ast K hK hcl 55 31 16 255 rfl (fun _ => rfl) dX4_keepsTold_254 rfl (fun μ48 _ => ?_)
              refine g_iinc K (j43.1 + (nI 1)) 1 [(0, .ref am), (1, .int (j43.1 + (nI 1)))] [1, 0] rfl (by rw [ic_1]) (by decide) rfl 258 dX4_keepsTold_255 rfl ?_
              refine g_goto K 233 dX4_keepsTold_258 (by decide) ?_
              exact h45 ((j43.1 + (nI 1)), μ48)
        · refine g_lp (head := 204) (L := fun j49 => [(0, .ref am), (1, .int j49.1)]) (sf := fun j49 => []) (mf := fun j49 => j49.2) (fun again50 h51 j49 => ?_) fuel ((nI 0), j7)
          try dsimp only
          refine g_iloadn K 1 rfl rfl 205 dX4_keepsTold_204 rfl ?_
          refine g_iconst K (nI 5) ic_5 206 dX4_keepsTold_205 rfl ?_
          refine g_icmp_ge K 209 231 dX4_keepsTold_206 rfl (by decide) (fun _ => ?_) (fun _ => ?_)
          · refine g_sub (ls' := [(0, .ref am)]) [0] rfl ?_
            exact h12 j49.2
          · refine g_aloadn K 0 rfl rfl 210 dX4_keepsTold_209 rfl ?_
            refine gm_get K hK hcl 50 213 (by decide) q1535 rfl dX4_keepsTold_210 rfl ?_
            refine g_iloadn K 1 rfl rfl 214 dX4_keepsTold_213 rfl ?_
            refine g_aloadn K 0 rfl rfl 215 dX4_keepsTold_214 rfl ?_
            refine g_aloadn K 0 rfl rfl 216 dX4_keepsTold_215 rfl ?_
            refine gm_get K hK hcl 50 219 (by decide) q1535 rfl dX4_keepsTold_216 rfl ?_
            refine g_iloadn K 1 rfl rfl 220 dX4_keepsTold_219 rfl ?_
            refine gm_ald K hK hcl 50 28 5 221 rfl dX4_keepsTold_220 rfl (fun v52 _ => ?_)
            refine gm_call K hK hcl 224 (ct_keeps j49.2 v52) (lw_V q2230 q2232 qs146 q158 q2233) wd_keeps (by decide) rfl (Nat.le_of_ble_eq_true rfl) dX4_keepsTold_221 rfl (fun r53 _ => ?_)
            refine gm_ast K hK hcl 50 28 5 225 rfl (fun _ => rfl) dX4_keepsTold_224 rfl (fun μ54 _ => ?_)
            refine g_iinc K (j49.1 + (nI 1)) 1 [(0, .ref am), (1, .int (j49.1 + (nI 1)))] [1, 0] rfl (by rw [ic_1]) (by decide) rfl 228 dX4_keepsTold_225 rfl ?_
            refine g_goto K 204 dX4_keepsTold_228 (by decide) ?_
            exact h51 ((j49.1 + (nI 1)), μ54)
      · refine g_lp (head := 110) (L := fun j55 => [(0, .ref am), (1, .int j55.1)]) (sf := fun j55 => []) (mf := fun j55 => j55.2) (fun again56 h57 j55 => ?_) fuel ((nI 0), j4)
        try dsimp only
        refine g_iloadn K 1 rfl rfl 111 dX4_keepsTold_110 rfl ?_
        refine g_bipush K (nI 8) bp_8 113 dX4_keepsTold_111 rfl ?_
        refine g_icmp_ge K 116 202 dX4_keepsTold_113 rfl (by decide) (fun _ => ?_) (fun _ => ?_)
        · refine g_sub (ls' := [(0, .ref am)]) [0] rfl ?_
          exact h9 j55.2
        · refine g_aloadn K 0 rfl rfl 117 dX4_keepsTold_116 rfl ?_
          refine gm_get K hK hcl 46 120 (by decide) q1531 rfl dX4_keepsTold_117 rfl ?_
          refine g_iloadn K 1 rfl rfl 121 dX4_keepsTold_120 rfl ?_
          refine g_aloadn K 0 rfl rfl 122 dX4_keepsTold_121 rfl ?_
          refine g_aloadn K 0 rfl rfl 123 dX4_keepsTold_122 rfl ?_
          refine gm_get K hK hcl 46 126 (by decide) q1531 rfl dX4_keepsTold_123 rfl ?_
          refine g_iloadn K 1 rfl rfl 127 dX4_keepsTold_126 rfl ?_
          refine gm_ald K hK hcl 46 25 8 128 rfl dX4_keepsTold_127 rfl (fun v58 _ => ?_)
          refine gm_call K hK hcl 131 (ct_keeps j55.2 v58) (lw_V q2230 q2232 qs146 q158 q2233) wd_keeps (by decide) rfl (Nat.le_of_ble_eq_true rfl) dX4_keepsTold_128 rfl (fun r59 _ => ?_)
          refine gm_ast K hK hcl 46 25 8 132 rfl (fun _ => rfl) dX4_keepsTold_131 rfl (fun μ60 _ => ?_)
          refine g_aloadn K 0 rfl rfl 133 dX4_keepsTold_132 rfl ?_
          refine gm_get K hK hcl 52 136 (by decide) q1537 rfl dX4_keepsTold_133 rfl ?_
          refine g_iloadn K 1 rfl rfl 137 dX4_keepsTold_136 rfl ?_
          refine g_aloadn K 0 rfl rfl 138 dX4_keepsTold_137 rfl ?_
          refine g_aloadn K 0 rfl rfl 139 dX4_keepsTold_138 rfl ?_
          refine gm_get K hK hcl 52 142 (by decide) q1537 rfl dX4_keepsTold_139 rfl ?_
          refine g_iloadn K 1 rfl rfl 143 dX4_keepsTold_142 rfl ?_
          refine gm_ald K hK hcl 52 29 8 144 rfl dX4_keepsTold_143 rfl (fun v61 _ => ?_)
          refine gm_call K hK hcl 147 (ct_keeps μ60 v61) (lw_V q2230 q2232 qs146 q158 q2233) wd_keeps (by decide) rfl (Nat.le_of_ble_eq_true rfl) dX4_keepsTold_144 rfl (fun r62 _ => ?_)
          refine gm_ast K hK hcl 52 29 8 148 rfl (fun _ => rfl) dX4_keepsTold_147 rfl (fun μ63 _ => ?_)
          refine g_aloadn K 0 rfl rfl 149 dX4_keepsTold_148 rfl ?_
          refine gm_get K hK hcl 53 152 (by decide) q1538 rfl dX4_keepsTold_149 rfl ?_
          refine g_iloadn K 1 rfl rfl 153 dX4_keepsTold_152 rfl ?_
          refine g_aloadn K 0 rfl rfl 154 dX4_keepsTold_153 rfl ?_
          refine g_aloadn K 0 rfl rfl 155 dX4_keepsTold_154 rfl ?_
          refine gm_get K hK hcl 53 158 (by decide) q1538 rfl dX4_keepsTold_155 rfl ?_
          refine g_iloadn K 1 rfl rfl 159 dX4_keepsTold_158 rfl ?_
          refine gm_ald K hK hcl 53 30 8 160 rfl dX4_keepsTold_159 rfl (fun v64 _ => ?_)
          refine gm_call K hK hcl 163 (ct_keeps μ63 v64) (lw_V q2230 q2232 qs146 q158 q2233) wd_keeps (by decide) rfl (Nat.le_of_ble_eq_true rfl) dX4_keepsTold_160 rfl (fun r65 _ => ?_)
          refine gm_ast K hK hcl 53 30 8 164 rfl (fun _ => rfl) dX4_keepsTold_163 rfl (fun μ66 _ => ?_)
          refine g_aloadn K 0 rfl rfl 165 dX4_keepsTold_164 rfl ?_
          refine gm_get K hK hcl 67 168 (by decide) q1552 rfl dX4_keepsTold_165 rfl ?_
          refine g_iloadn K 1 rfl rfl 169 dX4_keepsTold_168 rfl ?_
          refine g_aloadn K 0 rfl rfl 170 dX4_keepsTold_169 rfl ?_
          refine g_aloadn K 0 rfl rfl 171 dX4_keepsTold_170 rfl ?_
          refine gm_get K hK hcl 67 174 (by decide) q1552 rfl dX4_keepsTold_171 rfl ?_
          refine g_iloadn K 1 rfl rfl 175 dX4_keepsTold_174 rfl ?_
          refine gm_ald K hK hcl 67 40 8 176 rfl dX4_keepsTold_175 rfl (fun v67 _ => ?_)
          refine gm_call K hK hcl 179 (ct_keeps μ66 v67) (lw_V q2230 q2232 qs146 q158 q2233) wd_keeps (by decide) rfl (Nat.le_of_ble_eq_true rfl) dX4_keepsTold_176 rfl (fun r68 _ => ?_)
          refine gm_ast K hK hcl 67 40 8 180 rfl (fun _ => rfl) dX4_keepsTold_179 rfl (fun μ69 _ => ?_)
          refine g_aloadn K 0 rfl rfl 181 dX4_keepsTold_180 rfl ?_
          refine gm_get K hK hcl 68 184 (by decide) q1553 rfl dX4_keepsTold_181 rfl ?_
          refine g_iloadn K 1 rfl rfl 185 dX4_keepsTold_184 rfl ?_
          refine g_aloadn K 0 rfl rfl 186 dX4_keepsTold_185 rfl ?_
          refine g_aloadn K 0 rfl rfl 187 dX4_keepsTold_186 rfl ?_
          refine gm_get K hK hcl 68 190 (by decide) q1553 rfl dX4_keepsTold_187 rfl ?_
          refine g_iloadn K 1 rfl rfl 191 dX4_keepsTold_190 rfl ?_
          refine gm_ald K hK hcl 68 41 8 192 rfl dX4_keepsTold_191 rfl (fun v70 _ => ?_)
          refine gm_call K hK hcl 195 (ct_keeps μ69 v70) (lw_V q2230 q2232 qs146 q158 q2233) wd_keeps (by decide) rfl (Nat.le_of_ble_eq_true rfl) dX4_keepsTold_192 rfl (fun r71 _ => ?_)
          refine gm_ast K hK hcl 68 41 8 196 rfl (fun _ => rfl) dX4_keepsTold_195 rfl (fun μ72 _ => ?_)
          refine g_iinc K (j55.1 + (nI 1)) 1 [(0, .ref am), (1, .int (j55.1 + (nI 1)))] [1, 0] rfl (by rw [ic_1]) (by decide) rfl 199 dX4_keepsTold_196 rfl ?_
          refine g_goto K 110 dX4_keepsTold_199 (by decide) ?_
          exact h57 ((j55.1 + (nI 1)), μ72)
    · refine g_lp (head := 80) (L := fun j73 => [(0, .ref am), (1, .int j73.1)]) (sf := fun j73 => []) (mf := fun j73 => j73.2) (fun again74 h75 j73 => ?_) fuel ((nI 0), j1)
      try dsimp only
      refine g_iloadn K 1 rfl rfl 81 dX4_keepsTold_80 rfl ?_
      refine g_bipush K (nI 9) bp_9 83 dX4_keepsTold_81 rfl ?_
      refine g_icmp_ge K 86 108 dX4_keepsTold_83 rfl (by decide) (fun _ => ?_) (fun _ => ?_)
      · refine g_sub (ls' := [(0, .ref am)]) [0] rfl ?_
        exact h6 j73.2
      · refine g_aloadn K 0 rfl rfl 87 dX4_keepsTold_86 rfl ?_
        refine gm_get K hK hcl 43 90 (by decide) q1528 rfl dX4_keepsTold_87 rfl ?_
        refine g_iloadn K 1 rfl rfl 91 dX4_keepsTold_90 rfl ?_
        refine g_aloadn K 0 rfl rfl 92 dX4_keepsTold_91 rfl ?_
        refine g_aloadn K 0 rfl rfl 93 dX4_keepsTold_92 rfl ?_
        refine gm_get K hK hcl 43 96 (by decide) q1528 rfl dX4_keepsTold_93 rfl ?_
        refine g_iloadn K 1 rfl rfl 97 dX4_keepsTold_96 rfl ?_
        refine gm_ald K hK hcl 43 23 9 98 rfl dX4_keepsTold_97 rfl (fun v76 _ => ?_)
        refine gm_call K hK hcl 101 (ct_keeps j73.2 v76) (lw_V q2230 q2232 qs146 q158 q2233) wd_keeps (by decide) rfl (Nat.le_of_ble_eq_true rfl) dX4_keepsTold_98 rfl (fun r77 _ => ?_)
        refine gm_ast K hK hcl 43 23 9 102 rfl (fun _ => rfl) dX4_keepsTold_101 rfl (fun μ78 _ => ?_)
        refine g_iinc K (j73.1 + (nI 1)) 1 [(0, .ref am), (1, .int (j73.1 + (nI 1)))] [1, 0] rfl (by rw [ic_1]) (by decide) rfl 105 dX4_keepsTold_102 rfl ?_
        refine g_goto K 80 dX4_keepsTold_105 (by decide) ?_
        exact h75 ((j73.1 + (nI 1)), μ78)
  · refine g_lp (head := 2) (L := fun j79 => [(0, .ref am), (1, .int j79.1)]) (sf := fun j79 => []) (mf := fun j79 => j79.2) (fun again80 h81 j79 => ?_) fuel ((nI 0), μ)
    try dsimp only
    refine g_iloadn K 1 rfl rfl 3 dX4_keepsTold_2 rfl ?_
    refine g_bipush K (nI 12) bp_12 5 dX4_keepsTold_3 rfl ?_
    refine g_icmp_ge K 8 78 dX4_keepsTold_5 rfl (by decide) (fun _ => ?_) (fun _ => ?_)
    · refine g_sub (ls' := [(0, .ref am)]) [0] rfl ?_
      exact h3 j79.2
    · refine g_aloadn K 0 rfl rfl 9 dX4_keepsTold_8 rfl ?_
      refine gm_get K hK hcl 7 12 (by decide) q1492 rfl dX4_keepsTold_9 rfl ?_
      refine g_iloadn K 1 rfl rfl 13 dX4_keepsTold_12 rfl ?_
      refine g_aloadn K 0 rfl rfl 14 dX4_keepsTold_13 rfl ?_
      refine g_aloadn K 0 rfl rfl 15 dX4_keepsTold_14 rfl ?_
      refine gm_get K hK hcl 7 18 (by decide) q1492 rfl dX4_keepsTold_15 rfl ?_
      refine g_iloadn K 1 rfl rfl 19 dX4_keepsTold_18 rfl ?_
      refine gm_ald K hK hcl 7 4 12 20 rfl dX4_keepsTold_19 rfl (fun v82 _ => ?_)
      refine gm_call K hK hcl 23 (ct_keeps j79.2 v82) (lw_V q2230 q2232 qs146 q158 q2233) wd_keeps (by decide) rfl (Nat.le_of_ble_eq_true rfl) dX4_keepsTold_20 rfl (fun r83 _ => ?_)
      refine gm_ast K hK hcl 7 4 12 24 rfl (fun _ => rfl) dX4_keepsTold_23 rfl (fun μ84 _ => ?_)
      refine g_aloadn K 0 rfl rfl 25 dX4_keepsTold_24 rfl ?_
      refine gm_get K hK hcl 8 28 (by decide) q1493 rfl dX4_keepsTold_25 rfl ?_
      refine g_iloadn K 1 rfl rfl 29 dX4_keepsTold_28 rfl ?_
      refine g_aloadn K 0 rfl rfl 30 dX4_keepsTold_29 rfl ?_
      refine g_aloadn K 0 rfl rfl 31 dX4_keepsTold_30 rfl ?_
      refine gm_get K hK hcl 8 34 (by decide) q1493 rfl dX4_keepsTold_31 rfl ?_
      refine g_iloadn K 1 rfl rfl 35 dX4_keepsTold_34 rfl ?_
      refine gm_ald K hK hcl 8 5 12 36 rfl dX4_keepsTold_35 rfl (fun v85 _ => ?_)
      refine gm_call K hK hcl 39 (ct_keeps μ84 v85) (lw_V q2230 q2232 qs146 q158 q2233) wd_keeps (by decide) rfl (Nat.le_of_ble_eq_true rfl) dX4_keepsTold_36 rfl (fun r86 _ => ?_)
      refine gm_ast K hK hcl 8 5 12 40 rfl (fun _ => rfl) dX4_keepsTold_39 rfl (fun μ87 _ => ?_)
      refine g_aloadn K 0 rfl rfl 41 dX4_keepsTold_40 rfl ?_
      refine gm_get K hK hcl 38 44 (by decide) q1523 rfl dX4_keepsTold_41 rfl ?_
      refine g_iloadn K 1 rfl rfl 45 dX4_keepsTold_44 rfl ?_
      refine g_aloadn K 0 rfl rfl 46 dX4_keepsTold_45 rfl ?_
      refine g_aloadn K 0 rfl rfl 47 dX4_keepsTold_46 rfl ?_
      refine gm_get K hK hcl 38 50 (by decide) q1523 rfl dX4_keepsTold_47 rfl ?_
      refine g_iloadn K 1 rfl rfl 51 dX4_keepsTold_50 rfl ?_
      refine gm_ald K hK hcl 38 19 24 52 rfl dX4_keepsTold_51 rfl (fun v88 _ => ?_)
      refine gm_call K hK hcl 55 (ct_keeps μ87 v88) (lw_V q2230 q2232 qs146 q158 q2233) wd_keeps (by decide) rfl (Nat.le_of_ble_eq_true rfl) dX4_keepsTold_52 rfl (fun r89 _ => ?_)
      refine gm_ast K hK hcl 38 19 24 56 rfl (fun _ => rfl) dX4_keepsTold_55 rfl (fun μ90 _ => ?_)
      refine g_aloadn K 0 rfl rfl 57 dX4_keepsTold_56 rfl ?_
      refine gm_get K hK hcl 63 60 (by decide) q1548 rfl dX4_keepsTold_57 rfl ?_
      refine g_iloadn K 1 rfl rfl 61 dX4_keepsTold_60 rfl ?_
      refine g_aloadn K 0 rfl rfl 62 dX4_keepsTold_61 rfl ?_
      refine g_aloadn K 0 rfl rfl 63 dX4_keepsTold_62 rfl ?_
      refine gm_get K hK hcl 63 66 (by decide) q1548 rfl dX4_keepsTold_63 rfl ?_
      refine g_iloadn K 1 rfl rfl 67 dX4_keepsTold_66 rfl ?_
      refine gm_ald K hK hcl 63 37 12 68 rfl dX4_keepsTold_67 rfl (fun v91 _ => ?_)
      refine gm_call K hK hcl 71 (ct_keeps μ90 v91) (lw_V q2230 q2232 qs146 q158 q2233) wd_keeps (by decide) rfl (Nat.le_of_ble_eq_true rfl) dX4_keepsTold_68 rfl (fun r92 _ => ?_)
      refine gm_ast K hK hcl 63 37 12 72 rfl (fun _ => rfl) dX4_keepsTold_71 rfl (fun μ93 _ => ?_)
      refine g_iinc K (j79.1 + (nI 1)) 1 [(0, .ref am), (1, .int (j79.1 + (nI 1)))] [1, 0] rfl (by rw [ic_1]) (by decide) rfl 75 dX4_keepsTold_72 rfl ?_
      refine g_goto K 2 dX4_keepsTold_75 (by decide) ?_
      exact h81 ((j79.1 + (nI 1)), μ93)
/-- keepsLaw()V -/
def m_keepsLaw (μ : Mem) : Option (Mem) :=
  (rd μ 17 2 (nI 0)).bind fun v1 =>
  (m_keeps μ v1).bind fun r2 =>
  (wr r2.2 17 2 (nI 0) r2.1).bind fun μ3 =>
  jn (fun (j4 : Mem) =>
  lp (fun again8 (j7 : Int32 × Mem) =>
  if (nI 400) ≤ j7.1 then
  some j7.2
  else
  (rd j7.2 22 1200 j7.1).bind fun v10 =>
  (m_keeps j7.2 v10).bind fun r11 =>
  (wr r11.2 22 1200 j7.1 r11.1).bind fun μ12 =>
  (rd μ12 23 1200 j7.1).bind fun v13 =>
  (m_keeps μ12 v13).bind fun r14 =>
  (wr r14.2 23 1200 j7.1 r14.1).bind fun μ15 =>
  again8 ((j7.1 + (nI 1)), μ15)) fuel ((nI 0), j4)) (fun k5 =>
  lp (fun again17 (j16 : Int32 × Mem) =>
  if (nI 16) ≤ j16.1 then
  k5 j16.2
  else
  (rd j16.2 18 48 j16.1).bind fun v19 =>
  (m_keeps j16.2 v19).bind fun r20 =>
  (wr r20.2 18 48 j16.1 r20.1).bind fun μ21 =>
  (rd μ21 19 48 j16.1).bind fun v22 =>
  (m_keeps μ21 v22).bind fun r23 =>
  (wr r23.2 19 48 j16.1 r23.1).bind fun μ24 =>
  (rd μ24 20 48 j16.1).bind fun v25 =>
  (m_keeps μ24 v25).bind fun r26 =>
  (wr r26.2 20 48 j16.1 r26.1).bind fun μ27 =>
  (rd μ27 21 48 j16.1).bind fun v28 =>
  (m_keeps μ27 v28).bind fun r29 =>
  (wr r29.2 21 48 j16.1 r29.1).bind fun μ30 =>
  again17 ((j16.1 + (nI 1)), μ30)) fuel ((nI 0), μ3))
theorem wd_keepsLaw : yX4_keepsLaw.cls = RX4 ∧ yX4_keepsLaw.cls ≠ "java/lang/invoke/MethodHandle" ∧ yX4_keepsLaw.cls ≠ "java/lang/invoke/VarHandle" ∧ (parseMethodDescriptor yX4_keepsLaw.desc).map (fun d => d.parameters.length) = some 0 := by decide +kernel
set_option maxRecDepth 100000 in
theorem ct_keepsLaw (μ : Mem) : CtM yX4_keepsLaw cX4_keepsLaw 2 none 1 21 [] μ (fun r => (none, r)) (m_keepsLaw μ) := by
  refine CtM.of (by decide) rfl (fun _ => Nat.le_of_ble_eq_true rfl) ?_
  intro l D cl ci cA am p e s m args below meth c hcl K hr hlk hK
  refine g_sub (ls' := [(0, .ref am)]) [0] rfl ?_
  unfold m_keepsLaw
  refine g_aloadn K 0 rfl rfl 1 dX4_keepsLaw_0 rfl ?_
  refine gm_get K hK hcl 17 4 (by decide) q1502 rfl dX4_keepsLaw_1 rfl ?_
  refine g_iconst K (nI 0) ic_0 5 dX4_keepsLaw_4 rfl ?_
  refine g_aloadn K 0 rfl rfl 6 dX4_keepsLaw_5 rfl ?_
  refine g_aloadn K 0 rfl rfl 7 dX4_keepsLaw_6 rfl ?_
  refine gm_get K hK hcl 17 10 (by decide) q1502 rfl dX4_keepsLaw_7 rfl ?_
  refine g_iconst K (nI 0) ic_0 11 dX4_keepsLaw_10 rfl ?_
  refine gm_ald K hK hcl 17 9 2 12 rfl dX4_keepsLaw_11 rfl (fun v1 _ => ?_)
  refine gm_call K hK hcl 15 (ct_keeps μ v1) (lw_V q2230 q2232 qs146 q158 q2233) wd_keeps (by decide) rfl (Nat.le_of_ble_eq_true rfl) dX4_keepsLaw_12 rfl (fun r2 _ => ?_)
  refine gm_ast K hK hcl 17 9 2 16 rfl (fun _ => rfl) dX4_keepsLaw_15 rfl (fun μ3 _ => ?_)
  refine g_iconst K (nI 0) ic_0 17 dX4_keepsLaw_16 rfl ?_
  refine g_istoren K [(0, .ref am), (1, .int (nI 0))] [1, 0] rfl (by decide) rfl 18 dX4_keepsLaw_17 rfl ?_
  refine g_jn (head := 94) (L := fun j4 => [(0, .ref am)]) (sf := fun j4 => []) (mf := fun j4 => j4) (fun j4 => ?_) (fun k5 h6 => ?_)
  · try dsimp only
    refine g_iconst K (nI 0) ic_0 95 dX4_keepsLaw_94 rfl ?_
    refine g_istoren K [(0, .ref am), (1, .int (nI 0))] [1, 0] rfl (by decide) rfl 96 dX4_keepsLaw_95 rfl ?_
    refine g_lp (head := 96) (L := fun j7 => [(0, .ref am), (1, .int j7.1)]) (sf := fun j7 => []) (mf := fun j7 => j7.2) (fun again8 h9 j7 => ?_) fuel ((nI 0), j4)
    try dsimp only
    refine g_iloadn K 1 rfl rfl 97 dX4_keepsLaw_96 rfl ?_
    refine g_sipush K (nI 400) sp_400 100 dX4_keepsLaw_97 rfl ?_
    refine g_icmp_ge K 103 141 dX4_keepsLaw_100 rfl (by decide) (fun _ => ?_) (fun _ => ?_)
    · exact gm_vret K hK hcl hr hlk dX4_keepsLaw_141 rfl
    · refine g_aloadn K 0 rfl rfl 104 dX4_keepsLaw_103 rfl ?_
      refine gm_get K hK hcl 22 107 (by decide) q1507 rfl dX4_keepsLaw_104 rfl ?_
      refine g_iloadn K 1 rfl rfl 108 dX4_keepsLaw_107 rfl ?_
      refine g_aloadn K 0 rfl rfl 109 dX4_keepsLaw_108 rfl ?_
      refine g_aloadn K 0 rfl rfl 110 dX4_keepsLaw_109 rfl ?_
      refine gm_get K hK hcl 22 113 (by decide) q1507 rfl dX4_keepsLaw_110 rfl ?_
      refine g_iloadn K 1 rfl rfl 114 dX4_keepsLaw_113 rfl ?_
      refine gm_ald K hK hcl 22 14 1200 115 rfl dX4_keepsLaw_114 rfl (fun v10 _ => ?_)
      refine gm_call K hK hcl 118 (ct_keeps j7.2 v10) (lw_V q2230 q2232 qs146 q158 q2233) wd_keeps (by decide) rfl (Nat.le_of_ble_eq_true rfl) dX4_keepsLaw_115 rfl (fun r11 _ => ?_)
      refine gm_ast K hK hcl 22 14 1200 119 rfl (fun _ => rfl) dX4_keepsLaw_118 rfl (fun μ12 _ => ?_)
      refine g_aloadn K 0 rfl rfl 120 dX4_keepsLaw_119 rfl ?_
      refine gm_get K hK hcl 23 123 (by decide) q1508 rfl dX4_keepsLaw_120 rfl ?_
      refine g_iloadn K 1 rfl rfl 124 dX4_keepsLaw_123 rfl ?_
      refine g_aloadn K 0 rfl rfl 125 dX4_keepsLaw_124 rfl ?_
      refine g_aloadn K 0 rfl rfl 126 dX4_keepsLaw_125 rfl ?_
      refine gm_get K hK hcl 23 129 (by decide) q1508 rfl dX4_keepsLaw_126 rfl ?_
      refine g_iloadn K 1 rfl rfl 130 dX4_keepsLaw_129 rfl ?_
      refine gm_ald K hK hcl 23 15 1200 131 rfl dX4_keepsLaw_130 rfl (fun v13 _ => ?_)
      refine gm_call K hK hcl 134 (ct_keeps μ12 v13) (lw_V q2230 q2232 qs146 q158 q2233) wd_keeps (by decide) rfl (Nat.le_of_ble_eq_true rfl) dX4_keepsLaw_131 rfl (fun r14 _ => ?_)
      refine gm_ast K hK hcl 23 15 1200 135 rfl (fun _ => rfl) dX4_keepsLaw_134 rfl (fun μ15 _ => ?_)
      refine g_iinc K (j7.1 + (nI 1)) 1 [(0, .ref am), (1, .int (j7.1 + (nI 1)))] [1, 0] rfl (by rw [ic_1]) (by decide) rfl 138 dX4_keepsLaw_135 rfl ?_
      refine g_goto K 96 dX4_keepsLaw_138 (by decide) ?_
      exact h9 ((j7.1 + (nI 1)), μ15)
  · refine g_lp (head := 18) (L := fun j16 => [(0, .ref am), (1, .int j16.1)]) (sf := fun j16 => []) (mf := fun j16 => j16.2) (fun again17 h18 j16 => ?_) fuel ((nI 0), μ3)
    try dsimp only
    refine g_iloadn K 1 rfl rfl 19 dX4_keepsLaw_18 rfl ?_
    refine g_bipush K (nI 16) bp_16 21 dX4_keepsLaw_19 rfl ?_
    refine g_icmp_ge K 24 94 dX4_keepsLaw_21 rfl (by decide) (fun _ => ?_) (fun _ => ?_)
    · refine g_sub (ls' := [(0, .ref am)]) [0] rfl ?_
      exact h6 j16.2
    · refine g_aloadn K 0 rfl rfl 25 dX4_keepsLaw_24 rfl ?_
      refine gm_get K hK hcl 18 28 (by decide) q1503 rfl dX4_keepsLaw_25 rfl ?_
      refine g_iloadn K 1 rfl rfl 29 dX4_keepsLaw_28 rfl ?_
      refine g_aloadn K 0 rfl rfl 30 dX4_keepsLaw_29 rfl ?_
      refine g_aloadn K 0 rfl rfl 31 dX4_keepsLaw_30 rfl ?_
      refine gm_get K hK hcl 18 34 (by decide) q1503 rfl dX4_keepsLaw_31 rfl ?_
      refine g_iloadn K 1 rfl rfl 35 dX4_keepsLaw_34 rfl ?_
      refine gm_ald K hK hcl 18 10 48 36 rfl dX4_keepsLaw_35 rfl (fun v19 _ => ?_)
      refine gm_call K hK hcl 39 (ct_keeps j16.2 v19) (lw_V q2230 q2232 qs146 q158 q2233) wd_keeps (by decide) rfl (Nat.le_of_ble_eq_true rfl) dX4_keepsLaw_36 rfl (fun r20 _ => ?_)
      refine gm_ast K hK hcl 18 10 48 40 rfl (fun _ => rfl) dX4_keepsLaw_39 rfl (fun μ21 _ => ?_)
      refine g_aloadn K 0 rfl rfl 41 dX4_keepsLaw_40 rfl ?_
      refine gm_get K hK hcl 19 44 (by decide) q1504 rfl dX4_keepsLaw_41 rfl ?_
      refine g_iloadn K 1 rfl rfl 45 dX4_keepsLaw_44 rfl ?_
      refine g_aloadn K 0 rfl rfl 46 dX4_keepsLaw_45 rfl ?_
      refine g_aloadn K 0 rfl rfl 47 dX4_keepsLaw_46 rfl ?_
      refine gm_get K hK hcl 19 50 (by decide) q1504 rfl dX4_keepsLaw_47 rfl ?_
      refine g_iloadn K 1 rfl rfl 51 dX4_keepsLaw_50 rfl ?_
      refine gm_ald K hK hcl 19 11 48 52 rfl dX4_keepsLaw_51 rfl (fun v22 _ => ?_)
      refine gm_call K hK hcl 55 (ct_keeps μ21 v22) (lw_V q2230 q2232 qs146 q158 q2233) wd_keeps (by decide) rfl (Nat.le_of_ble_eq_true rfl) dX4_keepsLaw_52 rfl (fun r23 _ => ?_)
      refine gm_ast K hK hcl 19 11 48 56 rfl (fun _ => rfl) dX4_keepsLaw_55 rfl (fun μ24 _ => ?_)
      refine g_aloadn K 0 rfl rfl 57 dX4_keepsLaw_56 rfl ?_
      refine gm_get K hK hcl 20 60 (by decide) q1505 rfl dX4_keepsLaw_57 rfl ?_
      refine g_iloadn K 1 rfl rfl 61 dX4_keepsLaw_60 rfl ?_
      refine g_aloadn K 0 rfl rfl 62 dX4_keepsLaw_61 rfl ?_
      refine g_aloadn K 0 rfl rfl 63 dX4_keepsLaw_62 rfl ?_
      refine gm_get K hK hcl 20 66 (by decide) q1505 rfl dX4_keepsLaw_63 rfl ?_
      refine g_iloadn K 1 rfl rfl 67 dX4_keepsLaw_66 rfl ?_
      refine gm_ald K hK hcl 20 12 48 68 rfl dX4_keepsLaw_67 rfl (fun v25 _ => ?_)
      refine gm_call K hK hcl 71 (ct_keeps μ24 v25) (lw_V q2230 q2232 qs146 q158 q2233) wd_keeps (by decide) rfl (Nat.le_of_ble_eq_true rfl) dX4_keepsLaw_68 rfl (fun r26 _ => ?_)
      refine gm_ast K hK hcl 20 12 48 72 rfl (fun _ => rfl) dX4_keepsLaw_71 rfl (fun μ27 _ => ?_)
      refine g_aloadn K 0 rfl rfl 73 dX4_keepsLaw_72 rfl ?_
      refine gm_get K hK hcl 21 76 (by decide) q1506 rfl dX4_keepsLaw_73 rfl ?_
      refine g_iloadn K 1 rfl rfl 77 dX4_keepsLaw_76 rfl ?_
      refine g_aloadn K 0 rfl rfl 78 dX4_keepsLaw_77 rfl ?_
      refine g_aloadn K 0 rfl rfl 79 dX4_keepsLaw_78 rfl ?_
      refine gm_get K hK hcl 21 82 (by decide) q1506 rfl dX4_keepsLaw_79 rfl ?_
      refine g_iloadn K 1 rfl rfl 83 dX4_keepsLaw_82 rfl ?_
      refine gm_ald K hK hcl 21 13 48 84 rfl dX4_keepsLaw_83 rfl (fun v28 _ => ?_)
      refine gm_call K hK hcl 87 (ct_keeps μ27 v28) (lw_V q2230 q2232 qs146 q158 q2233) wd_keeps (by decide) rfl (Nat.le_of_ble_eq_true rfl) dX4_keepsLaw_84 rfl (fun r29 _ => ?_)
      refine gm_ast K hK hcl 21 13 48 88 rfl (fun _ => rfl) dX4_keepsLaw_87 rfl (fun μ30 _ => ?_)
      refine g_iinc K (j16.1 + (nI 1)) 1 [(0, .ref am), (1, .int (j16.1 + (nI 1)))] [1, 0] rfl (by rw [ic_1]) (by decide) rfl 91 dX4_keepsLaw_88 rfl ?_
      refine g_goto K 18 dX4_keepsLaw_91 (by decide) ?_
      exact h18 ((j16.1 + (nI 1)), μ30)
/-- image(Z)Z -/
def m_image (μ : Mem) (x1 : Bool) : Option (Bool × Mem) :=
  nm (up2 μ 0 0 (nI 0)) fun μ1 =>
  jn (fun (j2 : Unit) =>
  nm (up2 μ1 71 0 (bI x1)) fun μ5 =>
  nm (up2 μ5 72 0 (nI 1)) fun μ6 =>
  nm (up2 μ6 73 0 (nI 0)) fun μ7 =>
  jn (fun (j8 : Mem) =>
  (m_keepsMany j8).bind fun r11 =>
  (m_keepsTold r11).bind fun r12 =>
  jn (fun (j13 : Mem) =>
  (m_keepsLaw j13).bind fun r16 =>
  if (bI x1) = 0 then
  nm (up2 r16 3 0 (nI 0)) fun μ17 =>
  some (true, μ17)
  else
  some (true, r16)) (fun k14 =>
  lp (fun again19 (j18 : Int32 × Mem) =>
  if (nI 600) ≤ j18.1 then
  k14 j18.2
  else
  (rd j18.2 9 600 j18.1).bind fun v21 =>
  (m_keeps j18.2 v21).bind fun r22 =>
  (wr r22.2 9 600 j18.1 r22.1).bind fun μ23 =>
  again19 ((j18.1 + (nI 1)), μ23)) fuel ((nI 0), r12))) (fun k9 =>
  lp (fun again25 (j24 : Int32 × Mem) =>
  if (nI 115) ≤ j24.1 then
  k9 j24.2
  else
  (rd j24.2 1 115 j24.1).bind fun v27 =>
  (m_keeps j24.2 v27).bind fun r28 =>
  (wr r28.2 1 115 j24.1 r28.1).bind fun μ29 =>
  again25 ((j24.1 + (nI 1)), μ29)) fuel ((nI 0), μ7))) (fun k3 =>
  if (bI x1) = 0 then
  if (μ1 72 0) = 0 then
  some (false, μ1)
  else
  k3 ()
  else
  k3 ())
theorem wd_image : yX4_image.cls = RX4 ∧ yX4_image.cls ≠ "java/lang/invoke/MethodHandle" ∧ yX4_image.cls ≠ "java/lang/invoke/VarHandle" ∧ (parseMethodDescriptor yX4_image.desc).map (fun d => d.parameters.length) = some 1 := by decide +kernel
set_option maxRecDepth 100000 in
theorem ct_image (μ : Mem) (x1 : Bool) : CtM yX4_image cX4_image 3 (some .boolean) 2 42 [.int (bI x1)] μ (fun r => (some (.int (bI r.1)), r.2)) (m_image μ x1) := by
  refine CtM.of (by decide) rfl (fun _ => Nat.le_of_ble_eq_true rfl) ?_
  intro l D cl ci cA am p e s m args below meth c hcl K hr hlk hK
  refine g_sub (ls' := [(0, .ref am), (1, .int (bI x1))]) [0, 1] rfl ?_
  unfold m_image
  refine g_aloadn K 0 rfl rfl 1 dX4_image_0 rfl ?_
  refine g_iconst K (nI 0) ic_0 2 dX4_image_1 rfl ?_
  refine gm_put K hK hcl 0 (ty := .int) 5 (by decide) q1485 rfl (by decide +kernel) rfl rfl rfl dX4_image_2 rfl (fun μ1 _ => ?_)
  refine g_iloadn K 1 rfl rfl 6 dX4_image_5 rfl ?_
  refine g_jn (head := 18) (L := fun j2 => [(0, .ref am), (1, .int (bI x1))]) (sf := fun j2 => []) (mf := fun j2 => μ1) (fun j2 => ?_) (fun k3 h4 => ?_)
  · try dsimp only
    refine g_aloadn K 0 rfl rfl 19 dX4_image_18 rfl ?_
    refine g_iloadn K 1 rfl rfl 20 dX4_image_19 rfl ?_
    refine gm_put K hK hcl 71 (ty := .boolean) 23 (by decide) q1556 rfl (by decide +kernel) (bI_nar x1) (bI_fit x1) rfl dX4_image_20 rfl (fun μ5 _ => ?_)
    refine g_aloadn K 0 rfl rfl 24 dX4_image_23 rfl ?_
    refine g_iconst K (nI 1) ic_1 25 dX4_image_24 rfl ?_
    refine gm_put K hK hcl 72 (ty := .boolean) 28 (by decide) q1557 rfl (by decide +kernel) rfl rfl rfl dX4_image_25 rfl (fun μ6 _ => ?_)
    refine g_aloadn K 0 rfl rfl 29 dX4_image_28 rfl ?_
    refine g_iconst K (nI 0) ic_0 30 dX4_image_29 rfl ?_
    refine gm_put K hK hcl 73 (ty := .int) 33 (by decide) q1558 rfl (by decide +kernel) rfl rfl rfl dX4_image_30 rfl (fun μ7 _ => ?_)
    refine g_iconst K (nI 0) ic_0 34 dX4_image_33 rfl ?_
    refine g_istoren K [(0, .ref am), (1, .int (bI x1)), (2, .int (nI 0))] [1, 2, 0] rfl (by decide) rfl 35 dX4_image_34 rfl ?_
    refine g_jn (head := 63) (L := fun j8 => [(0, .ref am), (1, .int (bI x1))]) (sf := fun j8 => []) (mf := fun j8 => j8) (fun j8 => ?_) (fun k9 h10 => ?_)
    · try dsimp only
      refine g_aloadn K 0 rfl rfl 64 dX4_image_63 rfl ?_
      refine gm_call K hK hcl 67 (ct_keepsMany j8) (lw_V q2234 q2236 qs147 q158 q2237) wd_keepsMany (by decide) rfl (Nat.le_of_ble_eq_true rfl) dX4_image_64 rfl (fun r11 _ => ?_)
      refine g_aloadn K 0 rfl rfl 68 dX4_image_67 rfl ?_
      refine gm_call K hK hcl 71 (ct_keepsTold r11) (lw_V q2238 q2240 qs148 q158 q2241) wd_keepsTold (by decide) rfl (Nat.le_of_ble_eq_true rfl) dX4_image_68 rfl (fun r12 _ => ?_)
      refine g_iconst K (nI 0) ic_0 72 dX4_image_71 rfl ?_
      refine g_istoren K [(0, .ref am), (1, .int (bI x1)), (2, .int (nI 0))] [1, 2, 0] rfl (by decide) rfl 73 dX4_image_72 rfl ?_
      refine g_jn (head := 102) (L := fun j13 => [(0, .ref am), (1, .int (bI x1))]) (sf := fun j13 => []) (mf := fun j13 => j13) (fun j13 => ?_) (fun k14 h15 => ?_)
      · try dsimp only
        refine g_aloadn K 0 rfl rfl 103 dX4_image_102 rfl ?_
        refine gm_call K hK hcl 106 (ct_keepsLaw j13) (lw_V q2242 q2244 qs149 q158 q2245) wd_keepsLaw (by decide) rfl (Nat.le_of_ble_eq_true rfl) dX4_image_103 rfl (fun r16 _ => ?_)
        refine g_iloadn K 1 rfl rfl 107 dX4_image_106 rfl ?_
        refine g_if_ne K 110 115 dX4_image_107 rfl (by decide) (fun _ => ?_) (fun _ => ?_)
        · refine g_aloadn K 0 rfl rfl 111 dX4_image_110 rfl ?_
          refine g_iconst K (nI 0) ic_0 112 dX4_image_111 rfl ?_
          refine gm_put K hK hcl 3 (ty := .int) 115 (by decide) q1488 rfl (by decide +kernel) rfl rfl rfl dX4_image_112 rfl (fun μ17 _ => ?_)
          refine g_iconst K (nI 1) ic_1 116 dX4_image_115 rfl ?_
          exact gm_zret K hK hcl hr hlk (b := true) dX4_image_116 rfl rfl
        · refine g_iconst K (nI 1) ic_1 116 dX4_image_115 rfl ?_
          exact gm_zret K hK hcl hr hlk (b := true) dX4_image_116 rfl rfl
      · refine g_lp (head := 73) (L := fun j18 => [(0, .ref am), (1, .int (bI x1)), (2, .int j18.1)]) (sf := fun j18 => []) (mf := fun j18 => j18.2) (fun again19 h20 j18 => ?_) fuel ((nI 0), r12)
        try dsimp only
        refine g_iloadn K 2 rfl rfl 74 dX4_image_73 rfl ?_
        refine g_sipush K (nI 600) sp_600 77 dX4_image_74 rfl ?_
        refine g_icmp_ge K 80 102 dX4_image_77 rfl (by decide) (fun _ => ?_) (fun _ => ?_)
        · refine g_sub (ls' := [(0, .ref am), (1, .int (bI x1))]) [0, 1] rfl ?_
          exact h15 j18.2
        · refine g_aloadn K 0 rfl rfl 81 dX4_image_80 rfl ?_
          refine gm_get K hK hcl 9 84 (by decide) q1494 rfl dX4_image_81 rfl ?_
          refine g_iloadn K 2 rfl rfl 85 dX4_image_84 rfl ?_
          refine g_aloadn K 0 rfl rfl 86 dX4_image_85 rfl ?_
          refine g_aloadn K 0 rfl rfl 87 dX4_image_86 rfl ?_
          refine gm_get K hK hcl 9 90 (by decide) q1494 rfl dX4_image_87 rfl ?_
          refine g_iloadn K 2 rfl rfl 91 dX4_image_90 rfl ?_
          refine gm_ald K hK hcl 9 6 600 92 rfl dX4_image_91 rfl (fun v21 _ => ?_)
          refine gm_call K hK hcl 95 (ct_keeps j18.2 v21) (lw_V q2230 q2232 qs146 q158 q2233) wd_keeps (by decide) rfl (Nat.le_of_ble_eq_true rfl) dX4_image_92 rfl (fun r22 _ => ?_)
          refine gm_ast K hK hcl 9 6 600 96 rfl (fun _ => rfl) dX4_image_95 rfl (fun μ23 _ => ?_)
          refine g_iinc K (j18.1 + (nI 1)) 2 [(0, .ref am), (1, .int (bI x1)), (2, .int (j18.1 + (nI 1)))] [1, 2, 0] rfl (by rw [ic_1]) (by decide) rfl 99 dX4_image_96 rfl ?_
          refine g_goto K 73 dX4_image_99 (by decide) ?_
          exact h20 ((j18.1 + (nI 1)), μ23)
    · refine g_lp (head := 35) (L := fun j24 => [(0, .ref am), (1, .int (bI x1)), (2, .int j24.1)]) (sf := fun j24 => []) (mf := fun j24 => j24.2) (fun again25 h26 j24 => ?_) fuel ((nI 0), μ7)
      try dsimp only
      refine g_iloadn K 2 rfl rfl 36 dX4_image_35 rfl ?_
      refine g_bipush K (nI 115) bp_115 38 dX4_image_36 rfl ?_
      refine g_icmp_ge K 41 63 dX4_image_38 rfl (by decide) (fun _ => ?_) (fun _ => ?_)
      · refine g_sub (ls' := [(0, .ref am), (1, .int (bI x1))]) [0, 1] rfl ?_
        exact h10 j24.2
      · refine g_aloadn K 0 rfl rfl 42 dX4_image_41 rfl ?_
        refine gm_get K hK hcl 1 45 (by decide) q1486 rfl dX4_image_42 rfl ?_
        refine g_iloadn K 2 rfl rfl 46 dX4_image_45 rfl ?_
        refine g_aloadn K 0 rfl rfl 47 dX4_image_46 rfl ?_
        refine g_aloadn K 0 rfl rfl 48 dX4_image_47 rfl ?_
        refine gm_get K hK hcl 1 51 (by decide) q1486 rfl dX4_image_48 rfl ?_
        refine g_iloadn K 2 rfl rfl 52 dX4_image_51 rfl ?_
        refine gm_ald K hK hcl 1 1 115 53 rfl dX4_image_52 rfl (fun v27 _ => ?_)
        refine gm_call K hK hcl 56 (ct_keeps j24.2 v27) (lw_V q2230 q2232 qs146 q158 q2233) wd_keeps (by decide) rfl (Nat.le_of_ble_eq_true rfl) dX4_image_53 rfl (fun r28 _ => ?_)
        refine gm_ast K hK hcl 1 1 115 57 rfl (fun _ => rfl) dX4_image_56 rfl (fun μ29 _ => ?_)
        refine g_iinc K (j24.1 + (nI 1)) 2 [(0, .ref am), (1, .int (bI x1)), (2, .int (j24.1 + (nI 1)))] [1, 2, 0] rfl (by rw [ic_1]) (by decide) rfl 60 dX4_image_57 rfl ?_
        refine g_goto K 35 dX4_image_60 (by decide) ?_
        exact h26 ((j24.1 + (nI 1)), μ29)
  · refine g_if_ne K 9 18 dX4_image_6 rfl (by decide) (fun _ => ?_) (fun _ => ?_)
    · refine g_aloadn K 0 rfl rfl 10 dX4_image_9 rfl ?_
      refine gm_get K hK hcl 72 13 (by decide) q1557 rfl dX4_image_10 rfl ?_
      refine g_if_ne K 16 18 dX4_image_13 rfl (by decide) (fun _ => ?_) (fun _ => ?_)
      · refine g_iconst K (nI 0) ic_0 17 dX4_image_16 rfl ?_
        exact gm_zret K hK hcl hr hlk (b := false) dX4_image_17 rfl rfl
      · exact h4 ()
    · exact h4 ()
