/-- skyOf()V -/
def m_skyOf (μ : Mem) : Option (Mem) :=
  lp (fun again2 (j1 : Int32 × Mem) =>
  if ((nI 3) * (j1.2 33 0)) ≤ j1.1 then
  some j1.2
  else
  (rd j1.2 34 96 j1.1).bind fun v4 =>
  (rd j1.2 1 115 (nI 0)).bind fun v5 =>
  jn (fun (j6 : Mem) =>
  again2 ((j1.1 + (nI 3)), j6)) (fun k7 =>
  if v4 = v5 then
  (rd j1.2 34 96 (j1.1 + (nI 1))).bind fun v9 =>
  if v9 = 0 then
  (rd j1.2 34 96 (j1.1 + (nI 2))).bind fun v15 =>
  (wr j1.2 1 115 (nI 3) v15).bind fun μ16 =>
  k7 μ16
  else
  (rd j1.2 34 96 (j1.1 + (nI 1))).bind fun v10 =>
  jn (fun (j11 : Int32) =>
  (wr j1.2 1 115 (nI 4) j11).bind fun μ14 =>
  k7 μ14) (fun k12 =>
  if v10 = (nI 1) then
  k12 (nI 1)
  else
  k12 (nI 0))
  else
  k7 j1.2)) fuel ((nI 0), μ)
theorem wd_skyOf : yX4_skyOf.cls = RX4 ∧ yX4_skyOf.cls ≠ "java/lang/invoke/MethodHandle" ∧ yX4_skyOf.cls ≠ "java/lang/invoke/VarHandle" ∧ (parseMethodDescriptor yX4_skyOf.desc).map (fun d => d.parameters.length) = some 0 := by decide +kernel
set_option maxRecDepth 100000 in
theorem ct_skyOf (μ : Mem) : CtM yX4_skyOf cX4_skyOf 2 none 0 0 [] μ (fun r => (none, r)) (m_skyOf μ) := by
  refine CtM.of (by decide) rfl (fun _ => Nat.le_of_ble_eq_true rfl) ?_
  intro l D cl ci cA am p e s m args below meth c hcl K hr hlk hK
  refine g_sub (ls' := [(0, .ref am)]) [0] rfl ?_
  unfold m_skyOf
  refine g_iconst K (nI 0) ic_0 1 dX4_skyOf_0 rfl ?_
  refine g_istoren K [(0, .ref am), (1, .int (nI 0))] [1, 0] rfl (by decide) rfl 2 dX4_skyOf_1 rfl ?_
  refine g_lp (head := 2) (L := fun j1 => [(0, .ref am), (1, .int j1.1)]) (sf := fun j1 => []) (mf := fun j1 => j1.2) (fun again2 h3 j1 => ?_) fuel ((nI 0), μ)
  try dsimp only
  refine g_iloadn K 1 rfl rfl 3 dX4_skyOf_2 rfl ?_
  refine g_iconst K (nI 3) ic_3 4 dX4_skyOf_3 rfl ?_
  refine g_aloadn K 0 rfl rfl 5 dX4_skyOf_4 rfl ?_
  refine gm_get K hK hcl 33 8 (by decide) q1518 rfl dX4_skyOf_5 rfl ?_
  refine g_imul K 9 dX4_skyOf_8 rfl ?_
  refine g_icmp_ge K 12 88 dX4_skyOf_9 rfl (by decide) (fun _ => ?_) (fun _ => ?_)
  · exact gm_vret K hK hcl hr hlk dX4_skyOf_88 rfl
  · refine g_aloadn K 0 rfl rfl 13 dX4_skyOf_12 rfl ?_
    refine gm_get K hK hcl 34 16 (by decide) q1519 rfl dX4_skyOf_13 rfl ?_
    refine g_iloadn K 1 rfl rfl 17 dX4_skyOf_16 rfl ?_
    refine gm_ald K hK hcl 34 17 96 18 rfl dX4_skyOf_17 rfl (fun v4 _ => ?_)
    refine g_aloadn K 0 rfl rfl 19 dX4_skyOf_18 rfl ?_
    refine gm_get K hK hcl 1 22 (by decide) q1486 rfl dX4_skyOf_19 rfl ?_
    refine g_iconst K (nI 0) ic_0 23 dX4_skyOf_22 rfl ?_
    refine gm_ald K hK hcl 1 1 115 24 rfl dX4_skyOf_23 rfl (fun v5 _ => ?_)
    refine g_jn (head := 81) (L := fun j6 => [(0, .ref am), (1, .int j1.1)]) (sf := fun j6 => []) (mf := fun j6 => j6) (fun j6 => ?_) (fun k7 h8 => ?_)
    · try dsimp only
      refine g_iloadn K 1 rfl rfl 82 dX4_skyOf_81 rfl ?_
      refine g_iconst K (nI 3) ic_3 83 dX4_skyOf_82 rfl ?_
      refine g_iadd K 84 dX4_skyOf_83 rfl ?_
      refine g_istoren K [(0, .ref am), (1, .int (j1.1 + (nI 3)))] [1, 0] rfl (by decide) rfl 85 dX4_skyOf_84 rfl ?_
      refine g_goto K 2 dX4_skyOf_85 (by decide) ?_
      exact h3 ((j1.1 + (nI 3)), j6)
    · refine g_icmp_eq K 27 30 dX4_skyOf_24 rfl (by decide) (fun _ => ?_) (fun _ => ?_)
      · refine g_aloadn K 0 rfl rfl 31 dX4_skyOf_30 rfl ?_
        refine gm_get K hK hcl 34 34 (by decide) q1519 rfl dX4_skyOf_31 rfl ?_
        refine g_iloadn K 1 rfl rfl 35 dX4_skyOf_34 rfl ?_
        refine g_iconst K (nI 1) ic_1 36 dX4_skyOf_35 rfl ?_
        refine g_iadd K 37 dX4_skyOf_36 rfl ?_
        refine gm_ald K hK hcl 34 17 96 38 rfl dX4_skyOf_37 rfl (fun v9 _ => ?_)
        refine g_if_ne K 41 58 dX4_skyOf_38 rfl (by decide) (fun _ => ?_) (fun _ => ?_)
        · refine g_aloadn K 0 rfl rfl 42 dX4_skyOf_41 rfl ?_
          refine gm_get K hK hcl 1 45 (by decide) q1486 rfl dX4_skyOf_42 rfl ?_
          refine g_iconst K (nI 3) ic_3 46 dX4_skyOf_45 rfl ?_
          refine g_aloadn K 0 rfl rfl 47 dX4_skyOf_46 rfl ?_
          refine gm_get K hK hcl 34 50 (by decide) q1519 rfl dX4_skyOf_47 rfl ?_
          refine g_iloadn K 1 rfl rfl 51 dX4_skyOf_50 rfl ?_
          refine g_iconst K (nI 2) ic_2 52 dX4_skyOf_51 rfl ?_
          refine g_iadd K 53 dX4_skyOf_52 rfl ?_
          refine gm_ald K hK hcl 34 17 96 54 rfl dX4_skyOf_53 rfl (fun v15 _ => ?_)
          refine gm_ast K hK hcl 1 1 115 55 rfl (fun _ => rfl) dX4_skyOf_54 rfl (fun μ16 _ => ?_)
          refine g_goto K 81 dX4_skyOf_55 (by decide) ?_
          exact h8 μ16
        · refine g_aloadn K 0 rfl rfl 59 dX4_skyOf_58 rfl ?_
          refine gm_get K hK hcl 1 62 (by decide) q1486 rfl dX4_skyOf_59 rfl ?_
          refine g_iconst K (nI 4) ic_4 63 dX4_skyOf_62 rfl ?_
          refine g_aloadn K 0 rfl rfl 64 dX4_skyOf_63 rfl ?_
          refine gm_get K hK hcl 34 67 (by decide) q1519 rfl dX4_skyOf_64 rfl ?_
          refine g_iloadn K 1 rfl rfl 68 dX4_skyOf_67 rfl ?_
          refine g_iconst K (nI 1) ic_1 69 dX4_skyOf_68 rfl ?_
          refine g_iadd K 70 dX4_skyOf_69 rfl ?_
          refine gm_ald K hK hcl 34 17 96 71 rfl dX4_skyOf_70 rfl (fun v10 _ => ?_)
          refine g_iconst K (nI 1) ic_1 72 dX4_skyOf_71 rfl ?_
          refine g_jn (head := 80) (L := fun j11 => [(0, .ref am), (1, .int j1.1)]) (sf := fun j11 => [.int j11, .int (nI 4), .ref (am + 1)]) (mf := fun j11 => j1.2) (fun j11 => ?_) (fun k12 h13 => ?_)
          · try dsimp only
            refine gm_ast K hK hcl 1 1 115 81 rfl (fun _ => rfl) dX4_skyOf_80 rfl (fun μ14 _ => ?_)
            exact h8 μ14
          · refine g_icmp_ne K 75 79 dX4_skyOf_72 rfl (by decide) (fun _ => ?_) (fun _ => ?_)
            · refine g_iconst K (nI 1) ic_1 76 dX4_skyOf_75 rfl ?_
              refine g_goto K 80 dX4_skyOf_76 (by decide) ?_
              exact h13 (nI 1)
            · refine g_iconst K (nI 0) ic_0 80 dX4_skyOf_79 rfl ?_
              exact h13 (nI 0)
      · refine g_goto K 81 dX4_skyOf_27 (by decide) ?_
        exact h8 j1.2
/-- greater(II)I -/
def m_greater (μ : Mem) (x1 : Int32) (x2 : Int32) : Option (Int32) :=
  if x1 ≤ x2 then
  some x2
  else
  some x1
theorem wd_greater : yX4_greater.cls = RX4 ∧ yX4_greater.cls ≠ "java/lang/invoke/MethodHandle" ∧ yX4_greater.cls ≠ "java/lang/invoke/VarHandle" ∧ (parseMethodDescriptor yX4_greater.desc).map (fun d => d.parameters.length) = some 2 := by decide +kernel
set_option maxRecDepth 100000 in
theorem ct_greater (μ : Mem) (x1 : Int32) (x2 : Int32) : CtM yX4_greater cX4_greater 3 (some .int) 0 0 [.int x1, .int x2] μ (fun r => (some (.int r), μ)) (m_greater μ x1 x2) := by
  refine CtM.of (by decide) rfl (fun _ => Nat.le_of_ble_eq_true rfl) ?_
  intro l D cl ci cA am p e s m args below meth c hcl K hr hlk hK
  refine g_sub (ls' := [(0, .ref am), (1, .int x1), (2, .int x2)]) [0, 1, 2] rfl ?_
  unfold m_greater
  refine g_iloadn K 1 rfl rfl 1 dX4_greater_0 rfl ?_
  refine g_iloadn K 2 rfl rfl 2 dX4_greater_1 rfl ?_
  refine g_icmp_le K 5 9 dX4_greater_2 rfl (by decide) (fun _ => ?_) (fun _ => ?_)
  · refine g_iloadn K 2 rfl rfl 10 dX4_greater_9 rfl ?_
    exact gm_iret K hK hcl hr hlk dX4_greater_10 rfl
  · refine g_iloadn K 1 rfl rfl 6 dX4_greater_5 rfl ?_
    refine g_goto K 10 dX4_greater_6 (by decide) ?_
    exact gm_iret K hK hcl hr hlk dX4_greater_10 rfl
/-- does(I)V -/
def m_does (μ : Mem) (x1 : Int32) : Option (Mem) :=
  (rd μ 36 160 (x1 + (nI 1))).bind fun v1 =>
  (rd μ 36 160 (x1 + (nI 2))).bind fun v2 =>
  (rd μ 36 160 (x1 + (nI 4))).bind fun v3 =>
  jn (fun (j4 : Mem) =>
  jn (fun (j7 : Mem) =>
  jn (fun (j10 : Mem) =>
  if v1 = (nI 3) then
  (m_doesStand j10 v2).bind fun r13 =>
  if (bI r13) = 0 then
  some j10
  else
  (m_isRazed j10 v2).bind fun r14 =>
  some r14
  else
  some j10) (fun k11 =>
  if v1 = (nI 2) then
  (m_canWed j7 v2).bind fun r15 =>
  if (bI r15) = 0 then
  k11 j7
  else
  (m_isWed j7 v2).bind fun r16 =>
  k11 r16
  else
  k11 j7)) (fun k8 =>
  if v1 = (nI 1) then
  (rd j4 36 160 (x1 + (nI 3))).bind fun v17 =>
  (rd j4 36 160 (x1 + (nI 3))).bind fun v18 =>
  (m_wallOf j4 v2 v18).bind fun r19 =>
  (m_hasWall j4 v2 v17 (r19 + v3)).bind fun r20 =>
  k8 r20
  else
  k8 j4)) (fun k5 =>
  if v1 = 0 then
  (rd μ 1 115 ((nI 67) + v2)).bind fun v21 =>
  (m_greater μ (nI 0) (v21 - v3)).bind fun r22 =>
  (wr μ 1 115 ((nI 67) + v2) r22).bind fun μ23 =>
  k5 μ23
  else
  k5 μ)
theorem wd_does : yX4_does.cls = RX4 ∧ yX4_does.cls ≠ "java/lang/invoke/MethodHandle" ∧ yX4_does.cls ≠ "java/lang/invoke/VarHandle" ∧ (parseMethodDescriptor yX4_does.desc).map (fun d => d.parameters.length) = some 1 := by decide +kernel
set_option maxRecDepth 100000 in
theorem ct_does (μ : Mem) (x1 : Int32) : CtM yX4_does cX4_does 5 none 5 109 [.int x1] μ (fun r => (none, r)) (m_does μ x1) := by
  refine CtM.of (by decide) rfl (fun _ => Nat.le_of_ble_eq_true rfl) ?_
  intro l D cl ci cA am p e s m args below meth c hcl K hr hlk hK
  refine g_sub (ls' := [(0, .ref am), (1, .int x1)]) [0, 1] rfl ?_
  unfold m_does
  refine g_aloadn K 0 rfl rfl 1 dX4_does_0 rfl ?_
  refine gm_get K hK hcl 36 4 (by decide) q1521 rfl dX4_does_1 rfl ?_
  refine g_iloadn K 1 rfl rfl 5 dX4_does_4 rfl ?_
  refine g_iconst K (nI 1) ic_1 6 dX4_does_5 rfl ?_
  refine g_iadd K 7 dX4_does_6 rfl ?_
  refine gm_ald K hK hcl 36 18 160 8 rfl dX4_does_7 rfl (fun v1 _ => ?_)
  refine g_istoren K [(0, .ref am), (1, .int x1), (2, .int v1)] [1, 2, 0] rfl (by decide) rfl 9 dX4_does_8 rfl ?_
  refine g_aloadn K 0 rfl rfl 10 dX4_does_9 rfl ?_
  refine gm_get K hK hcl 36 13 (by decide) q1521 rfl dX4_does_10 rfl ?_
  refine g_iloadn K 1 rfl rfl 14 dX4_does_13 rfl ?_
  refine g_iconst K (nI 2) ic_2 15 dX4_does_14 rfl ?_
  refine g_iadd K 16 dX4_does_15 rfl ?_
  refine gm_ald K hK hcl 36 18 160 17 rfl dX4_does_16 rfl (fun v2 _ => ?_)
  refine g_istoren K [(0, .ref am), (1, .int x1), (2, .int v1), (3, .int v2)] [1, 2, 3, 0] rfl (by decide) rfl 18 dX4_does_17 rfl ?_
  refine g_aloadn K 0 rfl rfl 19 dX4_does_18 rfl ?_
  refine gm_get K hK hcl 36 22 (by decide) q1521 rfl dX4_does_19 rfl ?_
  refine g_iloadn K 1 rfl rfl 23 dX4_does_22 rfl ?_
  refine g_iconst K (nI 4) ic_4 24 dX4_does_23 rfl ?_
  refine g_iadd K 25 dX4_does_24 rfl ?_
  refine gm_ald K hK hcl 36 18 160 26 rfl dX4_does_25 rfl (fun v3 _ => ?_)
  refine g_istore K [(0, .ref am), (1, .int x1), (2, .int v1), (3, .int v2), (4, .int v3)] [1, 2, 3, 4, 0] (by decide) rfl 28 dX4_does_26 rfl ?_
  refine g_iloadn K 2 rfl rfl 29 dX4_does_28 rfl ?_
  refine g_jn (head := 58) (L := fun j4 => [(0, .ref am), (1, .int x1), (2, .int v1), (3, .int v2), (4, .int v3)]) (sf := fun j4 => []) (mf := fun j4 => j4) (fun j4 => ?_) (fun k5 h6 => ?_)
  · try dsimp only
    refine g_iloadn K 2 rfl rfl 59 dX4_does_58 rfl ?_
    refine g_iconst K (nI 1) ic_1 60 dX4_does_59 rfl ?_
    refine g_jn (head := 92) (L := fun j7 => [(0, .ref am), (2, .int v1), (3, .int v2)]) (sf := fun j7 => []) (mf := fun j7 => j7) (fun j7 => ?_) (fun k8 h9 => ?_)
    · try dsimp only
      refine g_iloadn K 1 rfl rfl 93 dX4_does_92 rfl ?_
      refine g_iconst K (nI 2) ic_2 94 dX4_does_93 rfl ?_
      refine g_jn (head := 110) (L := fun j10 => [(0, .ref am), (2, .int v1), (3, .int v2)]) (sf := fun j10 => []) (mf := fun j10 => j10) (fun j10 => ?_) (fun k11 h12 => ?_)
      · try dsimp only
        refine g_iloadn K 1 rfl rfl 111 dX4_does_110 rfl ?_
        refine g_iconst K (nI 3) ic_3 112 dX4_does_111 rfl ?_
        refine g_icmp_ne K 115 128 dX4_does_112 rfl (by decide) (fun _ => ?_) (fun _ => ?_)
        · refine g_aloadn K 0 rfl rfl 116 dX4_does_115 rfl ?_
          refine g_iloadn K 2 rfl rfl 117 dX4_does_116 rfl ?_
          refine gm_call K hK hcl 120 (ct_doesStand j10 v2) (lw_V q1911 q1913 qs96 q158 q1914) wd_doesStand (by decide) rfl (Nat.le_of_ble_eq_true rfl) dX4_does_117 rfl (fun r13 _ => ?_)
          refine g_if_eq K 123 128 dX4_does_120 rfl (by decide) (fun _ => ?_) (fun _ => ?_)
          · exact gm_vret K hK hcl hr hlk dX4_does_128 rfl
          · refine g_aloadn K 0 rfl rfl 124 dX4_does_123 rfl ?_
            refine g_iloadn K 2 rfl rfl 125 dX4_does_124 rfl ?_
            refine gm_call K hK hcl 128 (ct_isRazed j10 v2) (lw_V q1947 q1949 qs105 q158 q1950) wd_isRazed (by decide) rfl (Nat.le_of_ble_eq_true rfl) dX4_does_125 rfl (fun r14 _ => ?_)
            exact gm_vret K hK hcl hr hlk dX4_does_128 rfl
        · exact gm_vret K hK hcl hr hlk dX4_does_128 rfl
      · refine g_icmp_ne K 97 110 dX4_does_94 rfl (by decide) (fun _ => ?_) (fun _ => ?_)
        · refine g_aloadn K 0 rfl rfl 98 dX4_does_97 rfl ?_
          refine g_iloadn K 2 rfl rfl 99 dX4_does_98 rfl ?_
          refine gm_call K hK hcl 102 (ct_canWed j7 v2) (lw_V q1907 q1909 qs95 q158 q1910) wd_canWed (by decide) rfl (Nat.le_of_ble_eq_true rfl) dX4_does_99 rfl (fun r15 _ => ?_)
          refine g_if_eq K 105 110 dX4_does_102 rfl (by decide) (fun _ => ?_) (fun _ => ?_)
          · exact h12 j7
          · refine g_aloadn K 0 rfl rfl 106 dX4_does_105 rfl ?_
            refine g_iloadn K 2 rfl rfl 107 dX4_does_106 rfl ?_
            refine gm_call K hK hcl 110 (ct_isWed j7 v2) (lw_V q1939 q1941 qs103 q158 q1942) wd_isWed (by decide) rfl (Nat.le_of_ble_eq_true rfl) dX4_does_107 rfl (fun r16 _ => ?_)
            exact h12 r16
        · exact h12 j7
    · refine g_icmp_ne K 63 92 dX4_does_60 rfl (by decide) (fun _ => ?_) (fun _ => ?_)
      · refine g_aloadn K 0 rfl rfl 64 dX4_does_63 rfl ?_
        refine g_iloadn K 3 rfl rfl 65 dX4_does_64 rfl ?_
        refine g_aloadn K 0 rfl rfl 66 dX4_does_65 rfl ?_
        refine gm_get K hK hcl 36 69 (by decide) q1521 rfl dX4_does_66 rfl ?_
        refine g_iloadn K 1 rfl rfl 70 dX4_does_69 rfl ?_
        refine g_iconst K (nI 3) ic_3 71 dX4_does_70 rfl ?_
        refine g_iadd K 72 dX4_does_71 rfl ?_
        refine gm_ald K hK hcl 36 18 160 73 rfl dX4_does_72 rfl (fun v17 _ => ?_)
        refine g_aloadn K 0 rfl rfl 74 dX4_does_73 rfl ?_
        refine g_iloadn K 3 rfl rfl 75 dX4_does_74 rfl ?_
        refine g_aloadn K 0 rfl rfl 76 dX4_does_75 rfl ?_
        refine gm_get K hK hcl 36 79 (by decide) q1521 rfl dX4_does_76 rfl ?_
        refine g_iloadn K 1 rfl rfl 80 dX4_does_79 rfl ?_
        refine g_iconst K (nI 3) ic_3 81 dX4_does_80 rfl ?_
        refine g_iadd K 82 dX4_does_81 rfl ?_
        refine gm_ald K hK hcl 36 18 160 83 rfl dX4_does_82 rfl (fun v18 _ => ?_)
        refine gm_call K hK hcl 86 (ct_wallOf j4 v2 v18) (lw_V q1903 q1905 qs94 q158 q1906) wd_wallOf (by decide) rfl (Nat.le_of_ble_eq_true rfl) dX4_does_83 rfl (fun r19 _ => ?_)
        refine g_iload K 4 rfl 88 dX4_does_86 rfl ?_
        refine g_iadd K 89 dX4_does_88 rfl ?_
        refine gm_call K hK hcl 92 (ct_hasWall j4 v2 v17 (r19 + v3)) (lw_V q1739 q1741 qs58 q158 q1742) wd_hasWall (by decide) rfl (Nat.le_of_ble_eq_true rfl) dX4_does_89 rfl (fun r20 _ => ?_)
        refine g_sub (ls' := [(0, .ref am), (2, .int v1), (3, .int v2)]) [0, 2, 3] rfl ?_
        exact h9 r20
      · refine g_sub (ls' := [(0, .ref am), (2, .int v1), (3, .int v2)]) [0, 2, 3] rfl ?_
        exact h9 j4
  · refine g_if_ne K 32 58 dX4_does_29 rfl (by decide) (fun _ => ?_) (fun _ => ?_)
    · refine g_aloadn K 0 rfl rfl 33 dX4_does_32 rfl ?_
      refine gm_get K hK hcl 1 36 (by decide) q1486 rfl dX4_does_33 rfl ?_
      refine g_bipush K (nI 67) bp_67 38 dX4_does_36 rfl ?_
      refine g_iloadn K 3 rfl rfl 39 dX4_does_38 rfl ?_
      refine g_iadd K 40 dX4_does_39 rfl ?_
      refine g_aloadn K 0 rfl rfl 41 dX4_does_40 rfl ?_
      refine g_iconst K (nI 0) ic_0 42 dX4_does_41 rfl ?_
      refine g_aloadn K 0 rfl rfl 43 dX4_does_42 rfl ?_
      refine gm_get K hK hcl 1 46 (by decide) q1486 rfl dX4_does_43 rfl ?_
      refine g_bipush K (nI 67) bp_67 48 dX4_does_46 rfl ?_
      refine g_iloadn K 3 rfl rfl 49 dX4_does_48 rfl ?_
      refine g_iadd K 50 dX4_does_49 rfl ?_
      refine gm_ald K hK hcl 1 1 115 51 rfl dX4_does_50 rfl (fun v21 _ => ?_)
      refine g_iload K 4 rfl 53 dX4_does_51 rfl ?_
      refine g_isub K 54 dX4_does_53 rfl ?_
      refine gm_call K hK hcl 57 (ct_greater μ (nI 0) (v21 - v3)) (lw_V q1967 q1969 qs109 q158 q1970) wd_greater (by decide) rfl (Nat.le_of_ble_eq_true rfl) dX4_does_54 rfl (fun r22 _ => ?_)
      refine gm_ast K hK hcl 1 1 115 58 rfl (fun _ => rfl) dX4_does_57 rfl (fun μ23 _ => ?_)
      exact h6 μ23
    · exact h6 μ
/-- standingSet()I -/
def m_standingSet (μ : Mem) : Option (Int32) :=
  lp (fun again2 (j1 : Int32 × Int32) =>
  if (μ 6 0) ≤ j1.2 then
  some j1.1
  else
  (m_doesStand μ j1.2).bind fun r4 =>
  if (bI r4) = 0 then
  again2 (j1.1, (j1.2 + (nI 1)))
  else
  nm (j1.1 ||| ((nI 1) <<< (j1.2 &&& 31))) fun v5 =>
  again2 (v5, (j1.2 + (nI 1)))) fuel ((nI 0), (nI 0))
theorem wd_standingSet : yX4_standingSet.cls = RX4 ∧ yX4_standingSet.cls ≠ "java/lang/invoke/MethodHandle" ∧ yX4_standingSet.cls ≠ "java/lang/invoke/VarHandle" ∧ (parseMethodDescriptor yX4_standingSet.desc).map (fun d => d.parameters.length) = some 0 := by decide +kernel
set_option maxRecDepth 100000 in
theorem ct_standingSet (μ : Mem) : CtM yX4_standingSet cX4_standingSet 3 (some .int) 3 64 [] μ (fun r => (some (.int r), μ)) (m_standingSet μ) := by
  refine CtM.of (by decide) rfl (fun _ => Nat.le_of_ble_eq_true rfl) ?_
  intro l D cl ci cA am p e s m args below meth c hcl K hr hlk hK
  refine g_sub (ls' := [(0, .ref am)]) [0] rfl ?_
  unfold m_standingSet
  refine g_iconst K (nI 0) ic_0 1 dX4_standingSet_0 rfl ?_
  refine g_istoren K [(0, .ref am), (1, .int (nI 0))] [1, 0] rfl (by decide) rfl 2 dX4_standingSet_1 rfl ?_
  refine g_iconst K (nI 0) ic_0 3 dX4_standingSet_2 rfl ?_
  refine g_istoren K [(0, .ref am), (1, .int (nI 0)), (2, .int (nI 0))] [1, 2, 0] rfl (by decide) rfl 4 dX4_standingSet_3 rfl ?_
  refine g_lp (head := 4) (L := fun j1 => [(0, .ref am), (1, .int j1.1), (2, .int j1.2)]) (sf := fun j1 => []) (mf := fun j1 => μ) (fun again2 h3 j1 => ?_) fuel ((nI 0), (nI 0))
  try dsimp only
  refine g_iloadn K 2 rfl rfl 5 dX4_standingSet_4 rfl ?_
  refine g_aloadn K 0 rfl rfl 6 dX4_standingSet_5 rfl ?_
  refine gm_get K hK hcl 6 9 (by decide) q1491 rfl dX4_standingSet_6 rfl ?_
  refine g_icmp_ge K 12 32 dX4_standingSet_9 rfl (by decide) (fun _ => ?_) (fun _ => ?_)
  · refine g_iloadn K 1 rfl rfl 33 dX4_standingSet_32 rfl ?_
    exact gm_iret K hK hcl hr hlk dX4_standingSet_33 rfl
  · refine g_aloadn K 0 rfl rfl 13 dX4_standingSet_12 rfl ?_
    refine g_iloadn K 2 rfl rfl 14 dX4_standingSet_13 rfl ?_
    refine gm_call K hK hcl 17 (ct_doesStand μ j1.2) (lw_V q1911 q1913 qs96 q158 q1914) wd_doesStand (by decide) rfl (Nat.le_of_ble_eq_true rfl) dX4_standingSet_14 rfl (fun r4 _ => ?_)
    refine g_if_eq K 20 26 dX4_standingSet_17 rfl (by decide) (fun _ => ?_) (fun _ => ?_)
    · refine g_iinc K (j1.2 + (nI 1)) 2 [(0, .ref am), (1, .int j1.1), (2, .int (j1.2 + (nI 1)))] [1, 2, 0] rfl (by rw [ic_1]) (by decide) rfl 29 dX4_standingSet_26 rfl ?_
      refine g_goto K 4 dX4_standingSet_29 (by decide) ?_
      exact h3 (j1.1, (j1.2 + (nI 1)))
    · refine g_iloadn K 1 rfl rfl 21 dX4_standingSet_20 rfl ?_
      refine g_iconst K (nI 1) ic_1 22 dX4_standingSet_21 rfl ?_
      refine g_iloadn K 2 rfl rfl 23 dX4_standingSet_22 rfl ?_
      refine g_ishl K 24 dX4_standingSet_23 rfl ?_
      refine g_ior K 25 dX4_standingSet_24 rfl ?_
      refine g_nm (fun v5 _ => ?_)
      refine g_istoren K [(0, .ref am), (1, .int v5), (2, .int j1.2)] [1, 0, 2] rfl (by decide) rfl 26 dX4_standingSet_25 rfl ?_
      refine g_iinc K (j1.2 + (nI 1)) 2 [(0, .ref am), (1, .int v5), (2, .int (j1.2 + (nI 1)))] [1, 2, 0] rfl (by rw [ic_1]) (by decide) rfl 29 dX4_standingSet_26 rfl ?_
      refine g_goto K 4 dX4_standingSet_29 (by decide) ?_
      exact h3 (v5, (j1.2 + (nI 1)))
/-- asks(II)V -/
def m_asks (μ : Mem) (x1 : Int32) (x2 : Int32) : Option (Mem) :=
  (wr μ 39 12 (nI 0) x2).bind fun μ1 =>
  (m_sumOf μ1 x1).bind fun r2 =>
  (wr μ1 39 12 (nI 1) r2).bind fun μ3 =>
  (rd μ3 7 12 x1).bind fun v4 =>
  (wr μ3 39 12 (nI 2) v4).bind fun μ5 =>
  (rd μ5 8 12 x1).bind fun v6 =>
  (wr μ5 39 12 (nI 3) v6).bind fun μ7 =>
  (rd μ7 1 115 ((nI 55) + x1)).bind fun v8 =>
  (wr μ7 39 12 (nI 4) v8).bind fun μ9 =>
  (rd μ9 1 115 ((nI 67) + x1)).bind fun v10 =>
  (wr μ9 39 12 (nI 5) v10).bind fun μ11 =>
  (rd μ11 1 115 ((nI 79) + x1)).bind fun v12 =>
  (wr μ11 39 12 (nI 6) v12).bind fun μ13 =>
  (rd μ13 1 115 ((nI 91) + x1)).bind fun v14 =>
  (wr μ13 39 12 (nI 7) v14).bind fun μ15 =>
  (rd μ15 1 115 ((nI 103) + x1)).bind fun v16 =>
  (wr μ15 39 12 (nI 8) v16).bind fun μ17 =>
  (rd μ17 1 115 (nI 3)).bind fun v18 =>
  (wr μ17 39 12 (nI 9) v18).bind fun μ19 =>
  (rd μ19 1 115 (nI 4)).bind fun v20 =>
  (wr μ19 39 12 (nI 10) v20).bind fun μ21 =>
  (rd μ21 1 115 (nI 0)).bind fun v22 =>
  (wr μ21 39 12 (nI 11) v22).bind fun μ23 =>
  some μ23
theorem wd_asks : yX4_asks.cls = RX4 ∧ yX4_asks.cls ≠ "java/lang/invoke/MethodHandle" ∧ yX4_asks.cls ≠ "java/lang/invoke/VarHandle" ∧ (parseMethodDescriptor yX4_asks.desc).map (fun d => d.parameters.length) = some 2 := by decide +kernel
set_option maxRecDepth 100000 in
theorem ct_asks (μ : Mem) (x1 : Int32) (x2 : Int32) : CtM yX4_asks cX4_asks 3 none 2 43 [.int x1, .int x2] μ (fun r => (none, r)) (m_asks μ x1 x2) := by
  refine CtM.of (by decide) rfl (fun _ => Nat.le_of_ble_eq_true rfl) ?_
  intro l D cl ci cA am p e s m args below meth c hcl K hr hlk hK
  refine g_sub (ls' := [(0, .ref am), (1, .int x1), (2, .int x2)]) [0, 1, 2] rfl ?_
  unfold m_asks
  refine g_aloadn K 0 rfl rfl 1 dX4_asks_0 rfl ?_
  refine gm_get K hK hcl 39 4 (by decide) q1524 rfl dX4_asks_1 rfl ?_
  refine g_iconst K (nI 0) ic_0 5 dX4_asks_4 rfl ?_
  refine g_iloadn K 2 rfl rfl 6 dX4_asks_5 rfl ?_
  refine gm_ast K hK hcl 39 20 12 7 rfl (fun _ => rfl) dX4_asks_6 rfl (fun μ1 _ => ?_)
  refine g_aloadn K 0 rfl rfl 8 dX4_asks_7 rfl ?_
  refine gm_get K hK hcl 39 11 (by decide) q1524 rfl dX4_asks_8 rfl ?_
  refine g_iconst K (nI 1) ic_1 12 dX4_asks_11 rfl ?_
  refine g_aloadn K 0 rfl rfl 13 dX4_asks_12 rfl ?_
  refine g_iloadn K 1 rfl rfl 14 dX4_asks_13 rfl ?_
  refine gm_call K hK hcl 17 (ct_sumOf μ1 x1) (lw_V q1915 q1917 qs97 q158 q1918) wd_sumOf (by decide) rfl (Nat.le_of_ble_eq_true rfl) dX4_asks_14 rfl (fun r2 _ => ?_)
  refine gm_ast K hK hcl 39 20 12 18 rfl (fun _ => rfl) dX4_asks_17 rfl (fun μ3 _ => ?_)
  refine g_aloadn K 0 rfl rfl 19 dX4_asks_18 rfl ?_
  refine gm_get K hK hcl 39 22 (by decide) q1524 rfl dX4_asks_19 rfl ?_
  refine g_iconst K (nI 2) ic_2 23 dX4_asks_22 rfl ?_
  refine g_aloadn K 0 rfl rfl 24 dX4_asks_23 rfl ?_
  refine gm_get K hK hcl 7 27 (by decide) q1492 rfl dX4_asks_24 rfl ?_
  refine g_iloadn K 1 rfl rfl 28 dX4_asks_27 rfl ?_
  refine gm_ald K hK hcl 7 4 12 29 rfl dX4_asks_28 rfl (fun v4 _ => ?_)
  refine gm_ast K hK hcl 39 20 12 30 rfl (fun _ => rfl) dX4_asks_29 rfl (fun μ5 _ => ?_)
  refine g_aloadn K 0 rfl rfl 31 dX4_asks_30 rfl ?_
  refine gm_get K hK hcl 39 34 (by decide) q1524 rfl dX4_asks_31 rfl ?_
  refine g_iconst K (nI 3) ic_3 35 dX4_asks_34 rfl ?_
  refine g_aloadn K 0 rfl rfl 36 dX4_asks_35 rfl ?_
  refine gm_get K hK hcl 8 39 (by decide) q1493 rfl dX4_asks_36 rfl ?_
  refine g_iloadn K 1 rfl rfl 40 dX4_asks_39 rfl ?_
  refine gm_ald K hK hcl 8 5 12 41 rfl dX4_asks_40 rfl (fun v6 _ => ?_)
  refine gm_ast K hK hcl 39 20 12 42 rfl (fun _ => rfl) dX4_asks_41 rfl (fun μ7 _ => ?_)
  refine g_aloadn K 0 rfl rfl 43 dX4_asks_42 rfl ?_
  refine gm_get K hK hcl 39 46 (by decide) q1524 rfl dX4_asks_43 rfl ?_
  refine g_iconst K (nI 4) ic_4 47 dX4_asks_46 rfl ?_
  refine g_aloadn K 0 rfl rfl 48 dX4_asks_47 rfl ?_
  refine gm_get K hK hcl 1 51 (by decide) q1486 rfl dX4_asks_48 rfl ?_
  refine g_bipush K (nI 55) bp_55 53 dX4_asks_51 rfl ?_
  refine g_iloadn K 1 rfl rfl 54 dX4_asks_53 rfl ?_
  refine g_iadd K 55 dX4_asks_54 rfl ?_
  refine gm_ald K hK hcl 1 1 115 56 rfl dX4_asks_55 rfl (fun v8 _ => ?_)
  refine gm_ast K hK hcl 39 20 12 57 rfl (fun _ => rfl) dX4_asks_56 rfl (fun μ9 _ => ?_)
  refine g_aloadn K 0 rfl rfl 58 dX4_asks_57 rfl ?_
  refine gm_get K hK hcl 39 61 (by decide) q1524 rfl dX4_asks_58 rfl ?_
  refine g_iconst K (nI 5) ic_5 62 dX4_asks_61 rfl ?_
  refine g_aloadn K 0 rfl rfl 63 dX4_asks_62 rfl ?_
  refine gm_get K hK hcl 1 66 (by decide) q1486 rfl dX4_asks_63 rfl ?_
  refine g_bipush K (nI 67) bp_67 68 dX4_asks_66 rfl ?_
  refine g_iloadn K 1 rfl rfl 69 dX4_asks_68 rfl ?_
  refine g_iadd K 70 dX4_asks_69 rfl ?_
  refine gm_ald K hK hcl 1 1 115 71 rfl dX4_asks_70 rfl (fun v10 _ => ?_)
  refine gm_ast K hK hcl 39 20 12 72 rfl (fun _ => rfl) dX4_asks_71 rfl (fun μ11 _ => ?_)
  refine g_aloadn K 0 rfl rfl 73 dX4_asks_72 rfl ?_
  refine gm_get K hK hcl 39 76 (by decide) q1524 rfl dX4_asks_73 rfl ?_
  refine g_bipush K (nI 6) bp_6 78 dX4_asks_76 rfl ?_
  refine g_aloadn K 0 rfl rfl 79 dX4_asks_78 rfl ?_
  refine gm_get K hK hcl 1 82 (by decide) q1486 rfl dX4_asks_79 rfl ?_
  refine g_bipush K (nI 79) bp_79 84 dX4_asks_82 rfl ?_
  refine g_iloadn K 1 rfl rfl 85 dX4_asks_84 rfl ?_
  refine g_iadd K 86 dX4_asks_85 rfl ?_
  refine gm_ald K hK hcl 1 1 115 87 rfl dX4_asks_86 rfl (fun v12 _ => ?_)
  refine gm_ast K hK hcl 39 20 12 88 rfl (fun _ => rfl) dX4_asks_87 rfl (fun μ13 _ => ?_)
  refine g_aloadn K 0 rfl rfl 89 dX4_asks_88 rfl ?_
  refine gm_get K hK hcl 39 92 (by decide) q1524 rfl dX4_asks_89 rfl ?_
  refine g_bipush K (nI 7) bp_7 94 dX4_asks_92 rfl ?_
  refine g_aloadn K 0 rfl rfl 95 dX4_asks_94 rfl ?_
  refine gm_get K hK hcl 1 98 (by decide) q1486 rfl dX4_asks_95 rfl ?_
  refine g_bipush K (nI 91) bp_91 100 dX4_asks_98 rfl ?_
  refine g_iloadn K 1 rfl rfl 101 dX4_asks_100 rfl ?_
  refine g_iadd K 102 dX4_asks_101 rfl ?_
  refine gm_ald K hK hcl 1 1 115 103 rfl dX4_asks_102 rfl (fun v14 _ => ?_)
  refine gm_ast K hK hcl 39 20 12 104 rfl (fun _ => rfl) dX4_asks_103 rfl (fun μ15 _ => ?_)
  refine g_aloadn K 0 rfl rfl 105 dX4_asks_104 rfl ?_
  refine gm_get K hK hcl 39 108 (by decide) q1524 rfl dX4_asks_105 rfl ?_
  refine g_bipush K (nI 8) bp_8 110 dX4_asks_108 rfl ?_
  refine g_aloadn K 0 rfl rfl 111 dX4_asks_110 rfl ?_
  refine gm_get K hK hcl 1 114 (by decide) q1486 rfl dX4_asks_111 rfl ?_
  refine g_bipush K (nI 103) bp_103 116 dX4_asks_114 rfl ?_
  refine g_iloadn K 1 rfl rfl 117 dX4_asks_116 rfl ?_
  refine g_iadd K 118 dX4_asks_117 rfl ?_
  refine gm_ald K hK hcl 1 1 115 119 rfl dX4_asks_118 rfl (fun v16 _ => ?_)
  refine gm_ast K hK hcl 39 20 12 120 rfl (fun _ => rfl) dX4_asks_119 rfl (fun μ17 _ => ?_)
  refine g_aloadn K 0 rfl rfl 121 dX4_asks_120 rfl ?_
  refine gm_get K hK hcl 39 124 (by decide) q1524 rfl dX4_asks_121 rfl ?_
  refine g_bipush K (nI 9) bp_9 126 dX4_asks_124 rfl ?_
  refine g_aloadn K 0 rfl rfl 127 dX4_asks_126 rfl ?_
  refine gm_get K hK hcl 1 130 (by decide) q1486 rfl dX4_asks_127 rfl ?_
  refine g_iconst K (nI 3) ic_3 131 dX4_asks_130 rfl ?_
  refine gm_ald K hK hcl 1 1 115 132 rfl dX4_asks_131 rfl (fun v18 _ => ?_)
  refine gm_ast K hK hcl 39 20 12 133 rfl (fun _ => rfl) dX4_asks_132 rfl (fun μ19 _ => ?_)
  refine g_aloadn K 0 rfl rfl 134 dX4_asks_133 rfl ?_
  refine gm_get K hK hcl 39 137 (by decide) q1524 rfl dX4_asks_134 rfl ?_
  refine g_bipush K (nI 10) bp_10 139 dX4_asks_137 rfl ?_
  refine g_aloadn K 0 rfl rfl 140 dX4_asks_139 rfl ?_
  refine gm_get K hK hcl 1 143 (by decide) q1486 rfl dX4_asks_140 rfl ?_
  refine g_iconst K (nI 4) ic_4 144 dX4_asks_143 rfl ?_
  refine gm_ald K hK hcl 1 1 115 145 rfl dX4_asks_144 rfl (fun v20 _ => ?_)
  refine gm_ast K hK hcl 39 20 12 146 rfl (fun _ => rfl) dX4_asks_145 rfl (fun μ21 _ => ?_)
  refine g_aloadn K 0 rfl rfl 147 dX4_asks_146 rfl ?_
  refine gm_get K hK hcl 39 150 (by decide) q1524 rfl dX4_asks_147 rfl ?_
  refine g_bipush K (nI 11) bp_11 152 dX4_asks_150 rfl ?_
  refine g_aloadn K 0 rfl rfl 153 dX4_asks_152 rfl ?_
  refine gm_get K hK hcl 1 156 (by decide) q1486 rfl dX4_asks_153 rfl ?_
  refine g_iconst K (nI 0) ic_0 157 dX4_asks_156 rfl ?_
  refine gm_ald K hK hcl 1 1 115 158 rfl dX4_asks_157 rfl (fun v22 _ => ?_)
  refine gm_ast K hK hcl 39 20 12 159 rfl (fun _ => rfl) dX4_asks_158 rfl (fun μ23 _ => ?_)
  exact gm_vret K hK hcl hr hlk dX4_asks_159 rfl
/-- twoOf(III)I -/
def m_twoOf (μ : Mem) (x1 : Int32) (x2 : Int32) (x3 : Int32) : Option (Int32) :=
  if x1 = (nI 2) then
  some (x2 + x3)
  else
  if x1 = (nI 3) then
  some (x2 - x3)
  else
  if x1 = (nI 4) then
  some (x2 * x3)
  else
  if x1 = (nI 5) then
  (idivO x2 x3).bind fun v1 =>
  some v1
  else
  if x1 = (nI 6) then
  if x3 ≤ x2 then
  some (nI 0)
  else
  some (nI 1)
  else
  if x1 = (nI 7) then
  if x2 = x3 then
  some (nI 1)
  else
  some (nI 0)
  else
  if x1 = (nI 8) then
  if x2 ≤ x3 then
  some (nI 0)
  else
  some (nI 1)
  else
  if x1 = (nI 10) then
  some (x2 * x3)
  else
  if (x2 + x3) ≤ 0 then
  some (nI 0)
  else
  some (nI 1)
theorem wd_twoOf : yX4_twoOf.cls = RX4 ∧ yX4_twoOf.cls ≠ "java/lang/invoke/MethodHandle" ∧ yX4_twoOf.cls ≠ "java/lang/invoke/VarHandle" ∧ (parseMethodDescriptor yX4_twoOf.desc).map (fun d => d.parameters.length) = some 3 := by decide +kernel
set_option maxRecDepth 100000 in
theorem ct_twoOf (μ : Mem) (x1 : Int32) (x2 : Int32) (x3 : Int32) : CtM yX4_twoOf cX4_twoOf 4 (some .int) 0 0 [.int x1, .int x2, .int x3] μ (fun r => (some (.int r), μ)) (m_twoOf μ x1 x2 x3) := by
  refine CtM.of (by decide) rfl (fun _ => Nat.le_of_ble_eq_true rfl) ?_
  intro l D cl ci cA am p e s m args below meth c hcl K hr hlk hK
  refine g_sub (ls' := [(0, .ref am), (1, .int x1), (2, .int x2), (3, .int x3)]) [0, 1, 2, 3] rfl ?_
  unfold m_twoOf
  refine g_iloadn K 1 rfl rfl 1 dX4_twoOf_0 rfl ?_
  refine g_iconst K (nI 2) ic_2 2 dX4_twoOf_1 rfl ?_
  refine g_icmp_ne K 5 9 dX4_twoOf_2 rfl (by decide) (fun _ => ?_) (fun _ => ?_)
  · refine g_iloadn K 2 rfl rfl 6 dX4_twoOf_5 rfl ?_
    refine g_iloadn K 3 rfl rfl 7 dX4_twoOf_6 rfl ?_
    refine g_iadd K 8 dX4_twoOf_7 rfl ?_
    exact gm_iret K hK hcl hr hlk dX4_twoOf_8 rfl
  · refine g_iloadn K 1 rfl rfl 10 dX4_twoOf_9 rfl ?_
    refine g_iconst K (nI 3) ic_3 11 dX4_twoOf_10 rfl ?_
    refine g_icmp_ne K 14 18 dX4_twoOf_11 rfl (by decide) (fun _ => ?_) (fun _ => ?_)
    · refine g_iloadn K 2 rfl rfl 15 dX4_twoOf_14 rfl ?_
      refine g_iloadn K 3 rfl rfl 16 dX4_twoOf_15 rfl ?_
      refine g_isub K 17 dX4_twoOf_16 rfl ?_
      exact gm_iret K hK hcl hr hlk dX4_twoOf_17 rfl
    · refine g_iloadn K 1 rfl rfl 19 dX4_twoOf_18 rfl ?_
      refine g_iconst K (nI 4) ic_4 20 dX4_twoOf_19 rfl ?_
      refine g_icmp_ne K 23 27 dX4_twoOf_20 rfl (by decide) (fun _ => ?_) (fun _ => ?_)
      · refine g_iloadn K 2 rfl rfl 24 dX4_twoOf_23 rfl ?_
        refine g_iloadn K 3 rfl rfl 25 dX4_twoOf_24 rfl ?_
        refine g_imul K 26 dX4_twoOf_25 rfl ?_
        exact gm_iret K hK hcl hr hlk dX4_twoOf_26 rfl
      · refine g_iloadn K 1 rfl rfl 28 dX4_twoOf_27 rfl ?_
        refine g_iconst K (nI 5) ic_5 29 dX4_twoOf_28 rfl ?_
        refine g_icmp_ne K 32 36 dX4_twoOf_29 rfl (by decide) (fun _ => ?_) (fun _ => ?_)
        · refine g_iloadn K 2 rfl rfl 33 dX4_twoOf_32 rfl ?_
          refine g_iloadn K 3 rfl rfl 34 dX4_twoOf_33 rfl ?_
          refine g_idiv K 35 dX4_twoOf_34 rfl (fun v1 _ _ => ?_)
          exact gm_iret K hK hcl hr hlk dX4_twoOf_35 rfl
        · refine g_iloadn K 1 rfl rfl 37 dX4_twoOf_36 rfl ?_
          refine g_bipush K (nI 6) bp_6 39 dX4_twoOf_37 rfl ?_
          refine g_icmp_ne K 42 53 dX4_twoOf_39 rfl (by decide) (fun _ => ?_) (fun _ => ?_)
          · refine g_iloadn K 2 rfl rfl 43 dX4_twoOf_42 rfl ?_
            refine g_iloadn K 3 rfl rfl 44 dX4_twoOf_43 rfl ?_
            refine g_icmp_ge K 47 51 dX4_twoOf_44 rfl (by decide) (fun _ => ?_) (fun _ => ?_)
            · refine g_iconst K (nI 0) ic_0 52 dX4_twoOf_51 rfl ?_
              exact gm_iret K hK hcl hr hlk dX4_twoOf_52 rfl
            · refine g_iconst K (nI 1) ic_1 48 dX4_twoOf_47 rfl ?_
              refine g_goto K 52 dX4_twoOf_48 (by decide) ?_
              exact gm_iret K hK hcl hr hlk dX4_twoOf_52 rfl
          · refine g_iloadn K 1 rfl rfl 54 dX4_twoOf_53 rfl ?_
            refine g_bipush K (nI 7) bp_7 56 dX4_twoOf_54 rfl ?_
            refine g_icmp_ne K 59 70 dX4_twoOf_56 rfl (by decide) (fun _ => ?_) (fun _ => ?_)
            · refine g_iloadn K 2 rfl rfl 60 dX4_twoOf_59 rfl ?_
              refine g_iloadn K 3 rfl rfl 61 dX4_twoOf_60 rfl ?_
              refine g_icmp_ne K 64 68 dX4_twoOf_61 rfl (by decide) (fun _ => ?_) (fun _ => ?_)
              · refine g_iconst K (nI 1) ic_1 65 dX4_twoOf_64 rfl ?_
                refine g_goto K 69 dX4_twoOf_65 (by decide) ?_
                exact gm_iret K hK hcl hr hlk dX4_twoOf_69 rfl
              · refine g_iconst K (nI 0) ic_0 69 dX4_twoOf_68 rfl ?_
                exact gm_iret K hK hcl hr hlk dX4_twoOf_69 rfl
            · refine g_iloadn K 1 rfl rfl 71 dX4_twoOf_70 rfl ?_
              refine g_bipush K (nI 8) bp_8 73 dX4_twoOf_71 rfl ?_
              refine g_icmp_ne K 76 87 dX4_twoOf_73 rfl (by decide) (fun _ => ?_) (fun _ => ?_)
              · refine g_iloadn K 2 rfl rfl 77 dX4_twoOf_76 rfl ?_
                refine g_iloadn K 3 rfl rfl 78 dX4_twoOf_77 rfl ?_
                refine g_icmp_le K 81 85 dX4_twoOf_78 rfl (by decide) (fun _ => ?_) (fun _ => ?_)
                · refine g_iconst K (nI 0) ic_0 86 dX4_twoOf_85 rfl ?_
                  exact gm_iret K hK hcl hr hlk dX4_twoOf_86 rfl
                · refine g_iconst K (nI 1) ic_1 82 dX4_twoOf_81 rfl ?_
                  refine g_goto K 86 dX4_twoOf_82 (by decide) ?_
                  exact gm_iret K hK hcl hr hlk dX4_twoOf_86 rfl
              · refine g_iloadn K 1 rfl rfl 88 dX4_twoOf_87 rfl ?_
                refine g_bipush K (nI 10) bp_10 90 dX4_twoOf_88 rfl ?_
                refine g_icmp_ne K 93 99 dX4_twoOf_90 rfl (by decide) (fun _ => ?_) (fun _ => ?_)
                · refine g_iloadn K 2 rfl rfl 94 dX4_twoOf_93 rfl ?_
                  refine g_iloadn K 3 rfl rfl 95 dX4_twoOf_94 rfl ?_
                  refine g_imul K 96 dX4_twoOf_95 rfl ?_
                  refine g_goto K 110 dX4_twoOf_96 (by decide) ?_
                  exact gm_iret K hK hcl hr hlk dX4_twoOf_110 rfl
                · refine g_iloadn K 2 rfl rfl 100 dX4_twoOf_99 rfl ?_
                  refine g_iloadn K 3 rfl rfl 101 dX4_twoOf_100 rfl ?_
                  refine g_iadd K 102 dX4_twoOf_101 rfl ?_
                  refine g_if_le K 105 109 dX4_twoOf_102 rfl (by decide) (fun _ => ?_) (fun _ => ?_)
                  · refine g_iconst K (nI 0) ic_0 110 dX4_twoOf_109 rfl ?_
                    exact gm_iret K hK hcl hr hlk dX4_twoOf_110 rfl
                  · refine g_iconst K (nI 1) ic_1 106 dX4_twoOf_105 rfl ?_
                    refine g_goto K 110 dX4_twoOf_106 (by decide) ?_
                    exact gm_iret K hK hcl hr hlk dX4_twoOf_110 rfl
/-- runs(III)I -/
def m_runs (μ : Mem) (x1 : Int32) (x2 : Int32) (x3 : Int32) : Option (Int32 × Mem) :=
  nm (((nI 400) * x1) + x2) fun v1 =>
  jn (fun (j2 : Mem) =>
  (rd j2 40 420 (nI 0)).bind fun v5 =>
  some (v5, j2)) (fun k3 =>
  lp (fun again7 (j6 : Int32 × Int32 × Mem) =>
  if (((nI 400) * x1) + x3) ≤ j6.2.1 then
  k3 j6.2.2
  else
  (rd j6.2.2 22 1200 j6.2.1).bind fun v9 =>
  jn (fun (j10 : Unit) =>
  (rd j6.2.2 22 1200 j6.2.1).bind fun v13 =>
  jn (fun (j14 : Int32) =>
  (wr j6.2.2 40 420 j6.1 j14).bind fun μ17 =>
  again7 ((j6.1 + (nI 1)), (j6.2.1 + (nI 1)), μ17)) (fun k15 =>
  if v13 = 0 then
  (rd j6.2.2 23 1200 j6.2.1).bind fun v20 =>
  k15 v20
  else
  (rd j6.2.2 23 1200 j6.2.1).bind fun v18 =>
  (rd j6.2.2 39 12 v18).bind fun v19 =>
  k15 v19)) (fun k11 =>
  if v9 = 0 then
  k11 ()
  else
  (rd j6.2.2 22 1200 j6.2.1).bind fun v21 =>
  if v21 = (nI 1) then
  k11 ()
  else
  (rd j6.2.2 22 1200 j6.2.1).bind fun v22 =>
  if v22 = (nI 9) then
  (rd j6.2.2 40 420 (j6.1 - (nI 1))).bind fun v29 =>
  (wr j6.2.2 40 420 (j6.1 - (nI 1)) ((nI 1) - v29)).bind fun μ30 =>
  again7 (j6.1, (j6.2.1 + (nI 1)), μ30)
  else
  nm (j6.1 - (nI 1)) fun v23 =>
  (rd j6.2.2 22 1200 j6.2.1).bind fun v24 =>
  (rd j6.2.2 40 420 (v23 - (nI 1))).bind fun v25 =>
  (rd j6.2.2 40 420 v23).bind fun v26 =>
  (m_twoOf j6.2.2 v24 v25 v26).bind fun r27 =>
  (wr j6.2.2 40 420 (v23 - (nI 1)) r27).bind fun μ28 =>
  again7 (v23, (j6.2.1 + (nI 1)), μ28))) fuel ((nI 0), v1, μ))
theorem wd_runs : yX4_runs.cls = RX4 ∧ yX4_runs.cls ≠ "java/lang/invoke/MethodHandle" ∧ yX4_runs.cls ≠ "java/lang/invoke/VarHandle" ∧ (parseMethodDescriptor yX4_runs.desc).map (fun d => d.parameters.length) = some 3 := by decide +kernel
set_option maxRecDepth 100000 in
theorem ct_runs (μ : Mem) (x1 : Int32) (x2 : Int32) (x3 : Int32) : CtM yX4_runs cX4_runs 6 (some .int) 1 23 [.int x1, .int x2, .int x3] μ (fun r => (some (.int r.1), r.2)) (m_runs μ x1 x2 x3) := by
  refine CtM.of (by decide) rfl (fun _ => Nat.le_of_ble_eq_true rfl) ?_
  intro l D cl ci cA am p e s m args below meth c hcl K hr hlk hK
  refine g_sub (ls' := [(0, .ref am), (1, .int x1), (2, .int x2), (3, .int x3)]) [0, 1, 2, 3] rfl ?_
  unfold m_runs
  refine g_iconst K (nI 0) ic_0 1 dX4_runs_0 rfl ?_
  refine g_istore K [(0, .ref am), (1, .int x1), (2, .int x2), (3, .int x3), (4, .int (nI 0))] [1, 2, 3, 4, 0] (by decide) rfl 3 dX4_runs_1 rfl ?_
  refine g_sipush K (nI 400) sp_400 6 dX4_runs_3 rfl ?_
  refine g_iloadn K 1 rfl rfl 7 dX4_runs_6 rfl ?_
  refine g_imul K 8 dX4_runs_7 rfl ?_
  refine g_iloadn K 2 rfl rfl 9 dX4_runs_8 rfl ?_
  refine g_iadd K 10 dX4_runs_9 rfl ?_
  refine g_nm (fun v1 _ => ?_)
  refine g_istore K [(0, .ref am), (1, .int x1), (3, .int x3), (4, .int (nI 0)), (5, .int v1)] [1, 2, 4, 5, 0] (by decide) rfl 12 dX4_runs_10 rfl ?_
  refine g_jn (head := 176) (L := fun j2 => [(0, .ref am)]) (sf := fun j2 => []) (mf := fun j2 => j2) (fun j2 => ?_) (fun k3 h4 => ?_)
  · try dsimp only
    refine g_aloadn K 0 rfl rfl 177 dX4_runs_176 rfl ?_
    refine gm_get K hK hcl 40 180 (by decide) q1525 rfl dX4_runs_177 rfl ?_
    refine g_iconst K (nI 0) ic_0 181 dX4_runs_180 rfl ?_
    refine gm_ald K hK hcl 40 21 420 182 rfl dX4_runs_181 rfl (fun v5 _ => ?_)
    exact gm_iret K hK hcl hr hlk dX4_runs_182 rfl
  · refine g_lp (head := 12) (L := fun j6 => [(0, .ref am), (1, .int x1), (3, .int x3), (4, .int j6.1), (5, .int j6.2.1)]) (sf := fun j6 => []) (mf := fun j6 => j6.2.2) (fun again7 h8 j6 => ?_) fuel ((nI 0), v1, μ)
    try dsimp only
    refine g_iload K 4 rfl 14 dX4_runs_12 rfl ?_
    refine g_sipush K (nI 400) sp_400 17 dX4_runs_14 rfl ?_
    refine g_iloadn K 1 rfl rfl 18 dX4_runs_17 rfl ?_
    refine g_imul K 19 dX4_runs_18 rfl ?_
    refine g_iloadn K 2 rfl rfl 20 dX4_runs_19 rfl ?_
    refine g_iadd K 21 dX4_runs_20 rfl ?_
    refine g_icmp_ge K 24 176 dX4_runs_21 rfl (by decide) (fun _ => ?_) (fun _ => ?_)
    · refine g_sub (ls' := [(0, .ref am)]) [0] rfl ?_
      exact h4 j6.2.2
    · refine g_aloadn K 0 rfl rfl 25 dX4_runs_24 rfl ?_
      refine gm_get K hK hcl 22 28 (by decide) q1507 rfl dX4_runs_25 rfl ?_
      refine g_iload K 4 rfl 30 dX4_runs_28 rfl ?_
      refine gm_ald K hK hcl 22 14 1200 31 rfl dX4_runs_30 rfl (fun v9 _ => ?_)
      refine g_jn (head := 45) (L := fun j10 => [(0, .ref am), (1, .int x1), (3, .int x3), (4, .int j6.1), (5, .int j6.2.1)]) (sf := fun j10 => []) (mf := fun j10 => j6.2.2) (fun j10 => ?_) (fun k11 h12 => ?_)
      · try dsimp only
        refine g_aloadn K 0 rfl rfl 46 dX4_runs_45 rfl ?_
        refine gm_get K hK hcl 40 49 (by decide) q1525 rfl dX4_runs_46 rfl ?_
        refine g_iload K 3 rfl 51 dX4_runs_49 rfl ?_
        refine g_aloadn K 0 rfl rfl 52 dX4_runs_51 rfl ?_
        refine gm_get K hK hcl 22 55 (by decide) q1507 rfl dX4_runs_52 rfl ?_
        refine g_iload K 4 rfl 57 dX4_runs_55 rfl ?_
        refine gm_ald K hK hcl 22 14 1200 58 rfl dX4_runs_57 rfl (fun v13 _ => ?_)
        refine g_jn (head := 83) (L := fun j14 => [(0, .ref am), (1, .int x1), (3, .int x3), (4, .int j6.1), (5, .int j6.2.1)]) (sf := fun j14 => [.int j14, .int j6.1, .ref (am + 21)]) (mf := fun j14 => j6.2.2) (fun j14 => ?_) (fun k15 h16 => ?_)
        · try dsimp only
          refine gm_ast K hK hcl 40 21 420 84 rfl (fun _ => rfl) dX4_runs_83 rfl (fun μ17 _ => ?_)
          refine g_iload K 3 rfl 86 dX4_runs_84 rfl ?_
          refine g_iconst K (nI 1) ic_1 87 dX4_runs_86 rfl ?_
          refine g_iadd K 88 dX4_runs_87 rfl ?_
          refine g_istore K [(0, .ref am), (1, .int x1), (3, .int x3), (4, .int (j6.1 + (nI 1))), (5, .int j6.2.1)] [1, 2, 3, 0, 4] (by decide) rfl 90 dX4_runs_88 rfl ?_
          refine g_goto K 170 dX4_runs_90 (by decide) ?_
          refine g_iinc K (j6.2.1 + (nI 1)) 4 [(0, .ref am), (1, .int x1), (3, .int x3), (4, .int (j6.1 + (nI 1))), (5, .int (j6.2.1 + (nI 1)))] [1, 2, 3, 4, 0] rfl (by rw [ic_1]) (by decide) rfl 173 dX4_runs_170 rfl ?_
          refine g_goto K 12 dX4_runs_173 (by decide) ?_
          exact h8 ((j6.1 + (nI 1)), (j6.2.1 + (nI 1)), μ17)
        · refine g_if_ne K 61 71 dX4_runs_58 rfl (by decide) (fun _ => ?_) (fun _ => ?_)
          · refine g_aloadn K 0 rfl rfl 62 dX4_runs_61 rfl ?_
            refine gm_get K hK hcl 23 65 (by decide) q1508 rfl dX4_runs_62 rfl ?_
            refine g_iload K 4 rfl 67 dX4_runs_65 rfl ?_
            refine gm_ald K hK hcl 23 15 1200 68 rfl dX4_runs_67 rfl (fun v20 _ => ?_)
            refine g_goto K 83 dX4_runs_68 (by decide) ?_
            exact h16 v20
          · refine g_aloadn K 0 rfl rfl 72 dX4_runs_71 rfl ?_
            refine gm_get K hK hcl 39 75 (by decide) q1524 rfl dX4_runs_72 rfl ?_
            refine g_aloadn K 0 rfl rfl 76 dX4_runs_75 rfl ?_
            refine gm_get K hK hcl 23 79 (by decide) q1508 rfl dX4_runs_76 rfl ?_
            refine g_iload K 4 rfl 81 dX4_runs_79 rfl ?_
            refine gm_ald K hK hcl 23 15 1200 82 rfl dX4_runs_81 rfl (fun v18 _ => ?_)
            refine gm_ald K hK hcl 39 20 12 83 rfl dX4_runs_82 rfl (fun v19 _ => ?_)
            exact h16 v19
      · refine g_if_eq K 34 45 dX4_runs_31 rfl (by decide) (fun _ => ?_) (fun _ => ?_)
        · exact h12 ()
        · refine g_aloadn K 0 rfl rfl 35 dX4_runs_34 rfl ?_
          refine gm_get K hK hcl 22 38 (by decide) q1507 rfl dX4_runs_35 rfl ?_
          refine g_iload K 4 rfl 40 dX4_runs_38 rfl ?_
          refine gm_ald K hK hcl 22 14 1200 41 rfl dX4_runs_40 rfl (fun v21 _ => ?_)
          refine g_iconst K (nI 1) ic_1 42 dX4_runs_41 rfl ?_
          refine g_icmp_ne K 45 93 dX4_runs_42 rfl (by decide) (fun _ => ?_) (fun _ => ?_)
          · exact h12 ()
          · refine g_aloadn K 0 rfl rfl 94 dX4_runs_93 rfl ?_
            refine gm_get K hK hcl 22 97 (by decide) q1507 rfl dX4_runs_94 rfl ?_
            refine g_iload K 4 rfl 99 dX4_runs_97 rfl ?_
            refine gm_ald K hK hcl 22 14 1200 100 rfl dX4_runs_99 rfl (fun v22 _ => ?_)
            refine g_bipush K (nI 9) bp_9 102 dX4_runs_100 rfl ?_
            refine g_icmp_ne K 105 128 dX4_runs_102 rfl (by decide) (fun _ => ?_) (fun _ => ?_)
            · refine g_aloadn K 0 rfl rfl 106 dX4_runs_105 rfl ?_
              refine gm_get K hK hcl 40 109 (by decide) q1525 rfl dX4_runs_106 rfl ?_
              refine g_iload K 3 rfl 111 dX4_runs_109 rfl ?_
              refine g_iconst K (nI 1) ic_1 112 dX4_runs_111 rfl ?_
              refine g_isub K 113 dX4_runs_112 rfl ?_
              refine g_iconst K (nI 1) ic_1 114 dX4_runs_113 rfl ?_
              refine g_aloadn K 0 rfl rfl 115 dX4_runs_114 rfl ?_
              refine gm_get K hK hcl 40 118 (by decide) q1525 rfl dX4_runs_115 rfl ?_
              refine g_iload K 3 rfl 120 dX4_runs_118 rfl ?_
              refine g_iconst K (nI 1) ic_1 121 dX4_runs_120 rfl ?_
              refine g_isub K 122 dX4_runs_121 rfl ?_
              refine gm_ald K hK hcl 40 21 420 123 rfl dX4_runs_122 rfl (fun v29 _ => ?_)
              refine g_isub K 124 dX4_runs_123 rfl ?_
              refine gm_ast K hK hcl 40 21 420 125 rfl (fun _ => rfl) dX4_runs_124 rfl (fun μ30 _ => ?_)
              refine g_goto K 170 dX4_runs_125 (by decide) ?_
              refine g_iinc K (j6.2.1 + (nI 1)) 4 [(0, .ref am), (1, .int x1), (3, .int x3), (4, .int j6.1), (5, .int (j6.2.1 + (nI 1)))] [1, 2, 3, 4, 0] rfl (by rw [ic_1]) (by decide) rfl 173 dX4_runs_170 rfl ?_
              refine g_goto K 12 dX4_runs_173 (by decide) ?_
              exact h8 (j6.1, (j6.2.1 + (nI 1)), μ30)
            · refine g_iload K 3 rfl 130 dX4_runs_128 rfl ?_
              refine g_iconst K (nI 1) ic_1 131 dX4_runs_130 rfl ?_
              refine g_isub K 132 dX4_runs_131 rfl ?_
              refine g_nm (fun v23 _ => ?_)
              refine g_istore K [(0, .ref am), (1, .int x1), (3, .int x3), (4, .int v23), (5, .int j6.2.1)] [1, 2, 3, 0, 4] (by decide) rfl 134 dX4_runs_132 rfl ?_
              refine g_aloadn K 0 rfl rfl 135 dX4_runs_134 rfl ?_
              refine gm_get K hK hcl 40 138 (by decide) q1525 rfl dX4_runs_135 rfl ?_
              refine g_iload K 3 rfl 140 dX4_runs_138 rfl ?_
              refine g_iconst K (nI 1) ic_1 141 dX4_runs_140 rfl ?_
              refine g_isub K 142 dX4_runs_141 rfl ?_
              refine g_aloadn K 0 rfl rfl 143 dX4_runs_142 rfl ?_
              refine g_aloadn K 0 rfl rfl 144 dX4_runs_143 rfl ?_
              refine gm_get K hK hcl 22 147 (by decide) q1507 rfl dX4_runs_144 rfl ?_
              refine g_iload K 4 rfl 149 dX4_runs_147 rfl ?_
              refine gm_ald K hK hcl 22 14 1200 150 rfl dX4_runs_149 rfl (fun v24 _ => ?_)
              refine g_aloadn K 0 rfl rfl 151 dX4_runs_150 rfl ?_
              refine gm_get K hK hcl 40 154 (by decide) q1525 rfl dX4_runs_151 rfl ?_
              refine g_iload K 3 rfl 156 dX4_runs_154 rfl ?_
              refine g_iconst K (nI 1) ic_1 157 dX4_runs_156 rfl ?_
              refine g_isub K 158 dX4_runs_157 rfl ?_
              refine gm_ald K hK hcl 40 21 420 159 rfl dX4_runs_158 rfl (fun v25 _ => ?_)
              refine g_aloadn K 0 rfl rfl 160 dX4_runs_159 rfl ?_
              refine gm_get K hK hcl 40 163 (by decide) q1525 rfl dX4_runs_160 rfl ?_
              refine g_iload K 3 rfl 165 dX4_runs_163 rfl ?_
              refine gm_ald K hK hcl 40 21 420 166 rfl dX4_runs_165 rfl (fun v26 _ => ?_)
              refine gm_call K hK hcl 169 (ct_twoOf j6.2.2 v24 v25 v26) (lw_V q1999 q2001 qs117 q158 q2002) wd_twoOf (by decide) rfl (Nat.le_of_ble_eq_true rfl) dX4_runs_166 rfl (fun r27 _ => ?_)
              refine gm_ast K hK hcl 40 21 420 170 rfl (fun _ => rfl) dX4_runs_169 rfl (fun μ28 _ => ?_)
              refine g_iinc K (j6.2.1 + (nI 1)) 4 [(0, .ref am), (1, .int x1), (3, .int x3), (4, .int v23), (5, .int (j6.2.1 + (nI 1)))] [1, 2, 3, 4, 0] rfl (by rw [ic_1]) (by decide) rfl 173 dX4_runs_170 rfl ?_
              refine g_goto K 12 dX4_runs_173 (by decide) ?_
              exact h8 (v23, (j6.2.1 + (nI 1)), μ28)
/-- lineOf(I)I -/
def m_lineOf (μ : Mem) (x1 : Int32) : Option (Int32 × Mem) :=
  lp (fun again2 (j1 : Int32 × Mem) =>
  (rd j1.2 17 2 (nI 0)).bind fun v4 =>
  if v4 ≤ j1.1 then
  some ((-1 : Int32), j1.2)
  else
  (rd j1.2 18 48 j1.1).bind fun v5 =>
  if v5 = x1 then
  (rd j1.2 20 48 j1.1).bind fun v6 =>
  (rd j1.2 21 48 j1.1).bind fun v7 =>
  if v6 = v7 then
  some (j1.1, j1.2)
  else
  (rd j1.2 20 48 j1.1).bind fun v8 =>
  (rd j1.2 21 48 j1.1).bind fun v9 =>
  (m_runs j1.2 (nI 0) v8 v9).bind fun r10 =>
  if r10.1 = 0 then
  again2 ((j1.1 + (nI 1)), r10.2)
  else
  some (j1.1, r10.2)
  else
  again2 ((j1.1 + (nI 1)), j1.2)) fuel ((nI 0), μ)
theorem wd_lineOf : yX4_lineOf.cls = RX4 ∧ yX4_lineOf.cls ≠ "java/lang/invoke/MethodHandle" ∧ yX4_lineOf.cls ≠ "java/lang/invoke/VarHandle" ∧ (parseMethodDescriptor yX4_lineOf.desc).map (fun d => d.parameters.length) = some 1 := by decide +kernel
set_option maxRecDepth 100000 in
theorem ct_lineOf (μ : Mem) (x1 : Int32) : CtM yX4_lineOf cX4_lineOf 3 (some .int) 2 48 [.int x1] μ (fun r => (some (.int r.1), r.2)) (m_lineOf μ x1) := by
  refine CtM.of (by decide) rfl (fun _ => Nat.le_of_ble_eq_true rfl) ?_
  intro l D cl ci cA am p e s m args below meth c hcl K hr hlk hK
  refine g_sub (ls' := [(0, .ref am), (1, .int x1)]) [0, 1] rfl ?_
  unfold m_lineOf
  refine g_iconst K (nI 0) ic_0 1 dX4_lineOf_0 rfl ?_
  refine g_istoren K [(0, .ref am), (1, .int x1), (2, .int (nI 0))] [1, 2, 0] rfl (by decide) rfl 2 dX4_lineOf_1 rfl ?_
  refine g_lp (head := 2) (L := fun j1 => [(0, .ref am), (1, .int x1), (2, .int j1.1)]) (sf := fun j1 => []) (mf := fun j1 => j1.2) (fun again2 h3 j1 => ?_) fuel ((nI 0), μ)
  try dsimp only
  refine g_iloadn K 2 rfl rfl 3 dX4_lineOf_2 rfl ?_
  refine g_aloadn K 0 rfl rfl 4 dX4_lineOf_3 rfl ?_
  refine gm_get K hK hcl 17 7 (by decide) q1502 rfl dX4_lineOf_4 rfl ?_
  refine g_iconst K (nI 0) ic_0 8 dX4_lineOf_7 rfl ?_
  refine gm_ald K hK hcl 17 9 2 9 rfl dX4_lineOf_8 rfl (fun v4 _ => ?_)
  refine g_icmp_ge K 12 65 dX4_lineOf_9 rfl (by decide) (fun _ => ?_) (fun _ => ?_)
  · refine g_iconst K (-1 : Int32) ic_m1 66 dX4_lineOf_65 rfl ?_
    exact gm_iret K hK hcl hr hlk dX4_lineOf_66 rfl
  · refine g_aloadn K 0 rfl rfl 13 dX4_lineOf_12 rfl ?_
    refine gm_get K hK hcl 18 16 (by decide) q1503 rfl dX4_lineOf_13 rfl ?_
    refine g_iloadn K 2 rfl rfl 17 dX4_lineOf_16 rfl ?_
    refine gm_ald K hK hcl 18 10 48 18 rfl dX4_lineOf_17 rfl (fun v5 _ => ?_)
    refine g_iloadn K 1 rfl rfl 19 dX4_lineOf_18 rfl ?_
    refine g_icmp_ne K 22 59 dX4_lineOf_19 rfl (by decide) (fun _ => ?_) (fun _ => ?_)
    · refine g_aloadn K 0 rfl rfl 23 dX4_lineOf_22 rfl ?_
      refine gm_get K hK hcl 20 26 (by decide) q1505 rfl dX4_lineOf_23 rfl ?_
      refine g_iloadn K 2 rfl rfl 27 dX4_lineOf_26 rfl ?_
      refine gm_ald K hK hcl 20 12 48 28 rfl dX4_lineOf_27 rfl (fun v6 _ => ?_)
      refine g_aloadn K 0 rfl rfl 29 dX4_lineOf_28 rfl ?_
      refine gm_get K hK hcl 21 32 (by decide) q1506 rfl dX4_lineOf_29 rfl ?_
      refine g_iloadn K 2 rfl rfl 33 dX4_lineOf_32 rfl ?_
      refine gm_ald K hK hcl 21 13 48 34 rfl dX4_lineOf_33 rfl (fun v7 _ => ?_)
      refine g_icmp_eq K 37 57 dX4_lineOf_34 rfl (by decide) (fun _ => ?_) (fun _ => ?_)
      · refine g_iloadn K 2 rfl rfl 58 dX4_lineOf_57 rfl ?_
        exact gm_iret K hK hcl hr hlk dX4_lineOf_58 rfl
      · refine g_aloadn K 0 rfl rfl 38 dX4_lineOf_37 rfl ?_
        refine g_iconst K (nI 0) ic_0 39 dX4_lineOf_38 rfl ?_
        refine g_aloadn K 0 rfl rfl 40 dX4_lineOf_39 rfl ?_
        refine gm_get K hK hcl 20 43 (by decide) q1505 rfl dX4_lineOf_40 rfl ?_
        refine g_iloadn K 2 rfl rfl 44 dX4_lineOf_43 rfl ?_
        refine gm_ald K hK hcl 20 12 48 45 rfl dX4_lineOf_44 rfl (fun v8 _ => ?_)
        refine g_aloadn K 0 rfl rfl 46 dX4_lineOf_45 rfl ?_
        refine gm_get K hK hcl 21 49 (by decide) q1506 rfl dX4_lineOf_46 rfl ?_
        refine g_iloadn K 2 rfl rfl 50 dX4_lineOf_49 rfl ?_
        refine gm_ald K hK hcl 21 13 48 51 rfl dX4_lineOf_50 rfl (fun v9 _ => ?_)
        refine gm_call K hK hcl 54 (ct_runs j1.2 (nI 0) v8 v9) (lw_V q1995 q1997 qs116 q158 q1998) wd_runs (by decide) rfl (Nat.le_of_ble_eq_true rfl) dX4_lineOf_51 rfl (fun r10 _ => ?_)
        refine g_if_eq K 57 59 dX4_lineOf_54 rfl (by decide) (fun _ => ?_) (fun _ => ?_)
        · refine g_iinc K (j1.1 + (nI 1)) 2 [(0, .ref am), (1, .int x1), (2, .int (j1.1 + (nI 1)))] [1, 2, 0] rfl (by rw [ic_1]) (by decide) rfl 62 dX4_lineOf_59 rfl ?_
          refine g_goto K 2 dX4_lineOf_62 (by decide) ?_
          exact h3 ((j1.1 + (nI 1)), r10.2)
        · refine g_iloadn K 2 rfl rfl 58 dX4_lineOf_57 rfl ?_
          exact gm_iret K hK hcl hr hlk dX4_lineOf_58 rfl
    · refine g_iinc K (j1.1 + (nI 1)) 2 [(0, .ref am), (1, .int x1), (2, .int (j1.1 + (nI 1)))] [1, 2, 0] rfl (by rw [ic_1]) (by decide) rfl 62 dX4_lineOf_59 rfl ?_
      refine g_goto K 2 dX4_lineOf_62 (by decide) ?_
      exact h3 ((j1.1 + (nI 1)), j1.2)
/-- lawTells(III)I -/
def m_lawTells (μ : Mem) (x1 : Int32) (x2 : Int32) (x3 : Int32) : Option (Int32 × Mem) :=
  (m_lineOf μ x1).bind fun r1 =>
  jn (fun (j2 : Int32 × Mem) =>
  (m_held j2.2 j2.1 (nI 0) x3).bind fun r5 =>
  some (r5, j2.2)) (fun k3 =>
  if r1.1 = (-1 : Int32) then
  k3 (x2, r1.2)
  else
  (rd r1.2 19 48 r1.1).bind fun v6 =>
  (rd r1.2 20 48 r1.1).bind fun v7 =>
  (m_runs r1.2 (nI 0) v6 v7).bind fun r8 =>
  k3 (r8.1, r8.2))
theorem wd_lawTells : yX4_lawTells.cls = RX4 ∧ yX4_lawTells.cls ≠ "java/lang/invoke/MethodHandle" ∧ yX4_lawTells.cls ≠ "java/lang/invoke/VarHandle" ∧ (parseMethodDescriptor yX4_lawTells.desc).map (fun d => d.parameters.length) = some 3 := by decide +kernel
set_option maxRecDepth 100000 in
theorem ct_lawTells (μ : Mem) (x1 : Int32) (x2 : Int32) (x3 : Int32) : CtM yX4_lawTells cX4_lawTells 5 (some .int) 3 70 [.int x1, .int x2, .int x3] μ (fun r => (some (.int r.1), r.2)) (m_lawTells μ x1 x2 x3) := by
  refine CtM.of (by decide) rfl (fun _ => Nat.le_of_ble_eq_true rfl) ?_
  intro l D cl ci cA am p e s m args below meth c hcl K hr hlk hK
  refine g_sub (ls' := [(0, .ref am), (1, .int x1), (2, .int x2), (3, .int x3)]) [0, 1, 2, 3] rfl ?_
  unfold m_lawTells
  refine g_aloadn K 0 rfl rfl 1 dX4_lawTells_0 rfl ?_
  refine g_iloadn K 1 rfl rfl 2 dX4_lawTells_1 rfl ?_
  refine gm_call K hK hcl 5 (ct_lineOf μ x1) (lw_V q1991 q1993 qs115 q158 q1994) wd_lineOf (by decide) rfl (Nat.le_of_ble_eq_true rfl) dX4_lawTells_2 rfl (fun r1 _ => ?_)
  refine g_istore K [(0, .ref am), (2, .int x2), (3, .int x3), (4, .int r1.1)] [1, 3, 4, 0] (by decide) rfl 7 dX4_lawTells_5 rfl ?_
  refine g_aloadn K 0 rfl rfl 8 dX4_lawTells_7 rfl ?_
  refine g_iload K 3 rfl 10 dX4_lawTells_8 rfl ?_
  refine g_iconst K (-1 : Int32) ic_m1 11 dX4_lawTells_10 rfl ?_
  refine g_jn (head := 37) (L := fun j2 => [(0, .ref am), (3, .int x3)]) (sf := fun j2 => [.int j2.1, .ref am]) (mf := fun j2 => j2.2) (fun j2 => ?_) (fun k3 h4 => ?_)
  · try dsimp only
    refine g_iconst K (nI 0) ic_0 38 dX4_lawTells_37 rfl ?_
    refine g_iloadn K 1 rfl rfl 39 dX4_lawTells_38 rfl ?_
    refine gm_call K hK hcl 42 (ct_held j2.2 j2.1 (nI 0) x3) (lw_V q1743 q1745 qs59 q158 q1746) wd_held (by decide) rfl (Nat.le_of_ble_eq_true rfl) dX4_lawTells_39 rfl (fun r5 _ => ?_)
    exact gm_iret K hK hcl hr hlk dX4_lawTells_42 rfl
  · refine g_icmp_ne K 14 18 dX4_lawTells_11 rfl (by decide) (fun _ => ?_) (fun _ => ?_)
    · refine g_iloadn K 1 rfl rfl 15 dX4_lawTells_14 rfl ?_
      refine g_goto K 37 dX4_lawTells_15 (by decide) ?_
      refine g_sub (ls' := [(0, .ref am), (3, .int x3)]) [0, 2] rfl ?_
      exact h4 (x2, r1.2)
    · refine g_aloadn K 0 rfl rfl 19 dX4_lawTells_18 rfl ?_
      refine g_iconst K (nI 0) ic_0 20 dX4_lawTells_19 rfl ?_
      refine g_aloadn K 0 rfl rfl 21 dX4_lawTells_20 rfl ?_
      refine gm_get K hK hcl 19 24 (by decide) q1504 rfl dX4_lawTells_21 rfl ?_
      refine g_iload K 3 rfl 26 dX4_lawTells_24 rfl ?_
      refine gm_ald K hK hcl 19 11 48 27 rfl dX4_lawTells_26 rfl (fun v6 _ => ?_)
      refine g_aloadn K 0 rfl rfl 28 dX4_lawTells_27 rfl ?_
      refine gm_get K hK hcl 20 31 (by decide) q1505 rfl dX4_lawTells_28 rfl ?_
      refine g_iload K 3 rfl 33 dX4_lawTells_31 rfl ?_
      refine gm_ald K hK hcl 20 12 48 34 rfl dX4_lawTells_33 rfl (fun v7 _ => ?_)
      refine gm_call K hK hcl 37 (ct_runs r1.2 (nI 0) v6 v7) (lw_V q1995 q1997 qs116 q158 q1998) wd_runs (by decide) rfl (Nat.le_of_ble_eq_true rfl) dX4_lawTells_34 rfl (fun r8 _ => ?_)
      refine g_sub (ls' := [(0, .ref am), (3, .int x3)]) [0, 2] rfl ?_
      exact h4 (r8.1, r8.2)
/-- rentOf(I)I -/
def m_rentOf (μ : Mem) (x1 : Int32) : Option (Int32 × Mem) :=
  (m_thickest μ x1).bind fun r1 =>
  (m_wallOf μ x1 r1).bind fun r2 =>
  (m_asks μ x1 r2).bind fun r3 =>
  (rd r3 1 115 ((nI 79) + x1)).bind fun v4 =>
  (m_lawTells r3 (nI 0) ((nI 4) + ((nI 2) * v4)) (nI 99)).bind fun r5 =>
  some (r5.1, r5.2)
theorem wd_rentOf : yX4_rentOf.cls = RX4 ∧ yX4_rentOf.cls ≠ "java/lang/invoke/MethodHandle" ∧ yX4_rentOf.cls ≠ "java/lang/invoke/VarHandle" ∧ (parseMethodDescriptor yX4_rentOf.desc).map (fun d => d.parameters.length) = some 1 := by decide +kernel
set_option maxRecDepth 100000 in
theorem ct_rentOf (μ : Mem) (x1 : Int32) : CtM yX4_rentOf cX4_rentOf 2 (some .int) 4 94 [.int x1] μ (fun r => (some (.int r.1), r.2)) (m_rentOf μ x1) := by
  refine CtM.of (by decide) rfl (fun _ => Nat.le_of_ble_eq_true rfl) ?_
  intro l D cl ci cA am p e s m args below meth c hcl K hr hlk hK
  refine g_sub (ls' := [(0, .ref am), (1, .int x1)]) [0, 1] rfl ?_
  unfold m_rentOf
  refine g_aloadn K 0 rfl rfl 1 dX4_rentOf_0 rfl ?_
  refine g_iloadn K 1 rfl rfl 2 dX4_rentOf_1 rfl ?_
  refine g_aloadn K 0 rfl rfl 3 dX4_rentOf_2 rfl ?_
  refine g_iloadn K 1 rfl rfl 4 dX4_rentOf_3 rfl ?_
  refine g_aloadn K 0 rfl rfl 5 dX4_rentOf_4 rfl ?_
  refine g_iloadn K 1 rfl rfl 6 dX4_rentOf_5 rfl ?_
  refine gm_call K hK hcl 9 (ct_thickest μ x1) (lw_V q1943 q1945 qs104 q158 q1946) wd_thickest (by decide) rfl (Nat.le_of_ble_eq_true rfl) dX4_rentOf_6 rfl (fun r1 _ => ?_)
  refine gm_call K hK hcl 12 (ct_wallOf μ x1 r1) (lw_V q1903 q1905 qs94 q158 q1906) wd_wallOf (by decide) rfl (Nat.le_of_ble_eq_true rfl) dX4_rentOf_9 rfl (fun r2 _ => ?_)
  refine gm_call K hK hcl 15 (ct_asks μ x1 r2) (lw_V q1983 q1985 qs113 q158 q1986) wd_asks (by decide) rfl (Nat.le_of_ble_eq_true rfl) dX4_rentOf_12 rfl (fun r3 _ => ?_)
  refine g_aloadn K 0 rfl rfl 16 dX4_rentOf_15 rfl ?_
  refine g_iconst K (nI 0) ic_0 17 dX4_rentOf_16 rfl ?_
  refine g_iconst K (nI 4) ic_4 18 dX4_rentOf_17 rfl ?_
  refine g_iconst K (nI 2) ic_2 19 dX4_rentOf_18 rfl ?_
  refine g_aloadn K 0 rfl rfl 20 dX4_rentOf_19 rfl ?_
  refine gm_get K hK hcl 1 23 (by decide) q1486 rfl dX4_rentOf_20 rfl ?_
  refine g_bipush K (nI 79) bp_79 25 dX4_rentOf_23 rfl ?_
  refine g_iloadn K 1 rfl rfl 26 dX4_rentOf_25 rfl ?_
  refine g_iadd K 27 dX4_rentOf_26 rfl ?_
  refine gm_ald K hK hcl 1 1 115 28 rfl dX4_rentOf_27 rfl (fun v4 _ => ?_)
  refine g_imul K 29 dX4_rentOf_28 rfl ?_
  refine g_iadd K 30 dX4_rentOf_29 rfl ?_
  refine g_bipush K (nI 99) bp_99 32 dX4_rentOf_30 rfl ?_
  refine gm_call K hK hcl 35 (ct_lawTells r3 (nI 0) ((nI 4) + ((nI 2) * v4)) (nI 99)) (lw_V q1987 q1989 qs114 q158 q1990) wd_lawTells (by decide) rfl (Nat.le_of_ble_eq_true rfl) dX4_rentOf_32 rfl (fun r5 _ => ?_)
  exact gm_iret K hK hcl hr hlk dX4_rentOf_35 rfl
/-- paysRent(I)V -/
def m_paysRent (μ : Mem) (x1 : Int32) : Option (Mem) :=
  (m_rentOf μ x1).bind fun r1 =>
  jn (fun (j2 : Int32 × Mem) =>
  (rd j2.2 1 115 (nI 5)).bind fun v5 =>
  (wr j2.2 1 115 (nI 5) (v5 + j2.1)).bind fun μ6 =>
  jn (fun (j7 : Mem) =>
  (rd j7 1 115 ((nI 67) + x1)).bind fun v10 =>
  (wr j7 1 115 ((nI 67) + x1) ((v10 + r1.1) - j2.1)).bind fun μ11 =>
  jn (fun (j12 : Mem) =>
  (m_areOut j12 x1).bind fun r15 =>
  some r15) (fun k13 =>
  if r1.1 ≤ j2.1 then
  k13 μ11
  else
  (m_notes μ11 (nI 1) x1 (r1.1 - j2.1)).bind fun r16 =>
  k13 r16)) (fun k8 =>
  if j2.1 ≤ 0 then
  k8 μ6
  else
  (m_notes μ6 (nI 0) x1 j2.1).bind fun r17 =>
  k8 r17)) (fun k3 =>
  lp (fun again19 (j18 : Int32 × Mem) =>
  if r1.1 ≤ j18.1 then
  k3 (j18.1, j18.2)
  else
  (m_doesStand j18.2 x1).bind fun r21 =>
  if (bI r21) = 0 then
  k3 (j18.1, j18.2)
  else
  (m_thickest j18.2 x1).bind fun r22 =>
  (m_wallOf j18.2 x1 r22).bind fun r23 =>
  (m_hasWall j18.2 x1 r22 (r23 - (nI 1))).bind fun r24 =>
  again19 ((j18.1 + (nI 1)), r24)) fuel ((nI 0), r1.2))
theorem wd_paysRent : yX4_paysRent.cls = RX4 ∧ yX4_paysRent.cls ≠ "java/lang/invoke/MethodHandle" ∧ yX4_paysRent.cls ≠ "java/lang/invoke/VarHandle" ∧ (parseMethodDescriptor yX4_paysRent.desc).map (fun d => d.parameters.length) = some 1 := by decide +kernel
set_option maxRecDepth 100000 in
theorem ct_paysRent (μ : Mem) (x1 : Int32) : CtM yX4_paysRent cX4_paysRent 5 none 5 115 [.int x1] μ (fun r => (none, r)) (m_paysRent μ x1) := by
  refine CtM.of (by decide) rfl (fun _ => Nat.le_of_ble_eq_true rfl) ?_
  intro l D cl ci cA am p e s m args below meth c hcl K hr hlk hK
  refine g_sub (ls' := [(0, .ref am), (1, .int x1)]) [0, 1] rfl ?_
  unfold m_paysRent
  refine g_aloadn K 0 rfl rfl 1 dX4_paysRent_0 rfl ?_
  refine g_iloadn K 1 rfl rfl 2 dX4_paysRent_1 rfl ?_
  refine gm_call K hK hcl 5 (ct_rentOf μ x1) (lw_V q1979 q1981 qs112 q158 q1982) wd_rentOf (by decide) rfl (Nat.le_of_ble_eq_true rfl) dX4_paysRent_2 rfl (fun r1 _ => ?_)
  refine g_istoren K [(0, .ref am), (1, .int x1), (2, .int r1.1)] [1, 2, 0] rfl (by decide) rfl 6 dX4_paysRent_5 rfl ?_
  refine g_iconst K (nI 0) ic_0 7 dX4_paysRent_6 rfl ?_
  refine g_istoren K [(0, .ref am), (1, .int x1), (2, .int r1.1), (3, .int (nI 0))] [1, 2, 3, 0] rfl (by decide) rfl 8 dX4_paysRent_7 rfl ?_
  refine g_jn (head := 51) (L := fun j2 => [(0, .ref am), (1, .int x1), (2, .int r1.1), (3, .int j2.1)]) (sf := fun j2 => []) (mf := fun j2 => j2.2) (fun j2 => ?_) (fun k3 h4 => ?_)
  · try dsimp only
    refine g_aloadn K 0 rfl rfl 52 dX4_paysRent_51 rfl ?_
    refine gm_get K hK hcl 1 55 (by decide) q1486 rfl dX4_paysRent_52 rfl ?_
    refine g_iconst K (nI 5) ic_5 56 dX4_paysRent_55 rfl ?_
    refine g_aloadn K 0 rfl rfl 57 dX4_paysRent_56 rfl ?_
    refine gm_get K hK hcl 1 60 (by decide) q1486 rfl dX4_paysRent_57 rfl ?_
    refine g_iconst K (nI 5) ic_5 61 dX4_paysRent_60 rfl ?_
    refine gm_ald K hK hcl 1 1 115 62 rfl dX4_paysRent_61 rfl (fun v5 _ => ?_)
    refine g_iloadn K 3 rfl rfl 63 dX4_paysRent_62 rfl ?_
    refine g_iadd K 64 dX4_paysRent_63 rfl ?_
    refine gm_ast K hK hcl 1 1 115 65 rfl (fun _ => rfl) dX4_paysRent_64 rfl (fun μ6 _ => ?_)
    refine g_iloadn K 3 rfl rfl 66 dX4_paysRent_65 rfl ?_
    refine g_jn (head := 76) (L := fun j7 => [(0, .ref am), (1, .int x1), (2, .int r1.1), (3, .int j2.1)]) (sf := fun j7 => []) (mf := fun j7 => j7) (fun j7 => ?_) (fun k8 h9 => ?_)
    · try dsimp only
      refine g_aloadn K 0 rfl rfl 77 dX4_paysRent_76 rfl ?_
      refine gm_get K hK hcl 1 80 (by decide) q1486 rfl dX4_paysRent_77 rfl ?_
      refine g_bipush K (nI 67) bp_67 82 dX4_paysRent_80 rfl ?_
      refine g_iloadn K 1 rfl rfl 83 dX4_paysRent_82 rfl ?_
      refine g_iadd K 84 dX4_paysRent_83 rfl ?_
      refine g_aloadn K 0 rfl rfl 85 dX4_paysRent_84 rfl ?_
      refine gm_get K hK hcl 1 88 (by decide) q1486 rfl dX4_paysRent_85 rfl ?_
      refine g_bipush K (nI 67) bp_67 90 dX4_paysRent_88 rfl ?_
      refine g_iloadn K 1 rfl rfl 91 dX4_paysRent_90 rfl ?_
      refine g_iadd K 92 dX4_paysRent_91 rfl ?_
      refine gm_ald K hK hcl 1 1 115 93 rfl dX4_paysRent_92 rfl (fun v10 _ => ?_)
      refine g_iloadn K 2 rfl rfl 94 dX4_paysRent_93 rfl ?_
      refine g_iadd K 95 dX4_paysRent_94 rfl ?_
      refine g_iloadn K 3 rfl rfl 96 dX4_paysRent_95 rfl ?_
      refine g_isub K 97 dX4_paysRent_96 rfl ?_
      refine gm_ast K hK hcl 1 1 115 98 rfl (fun _ => rfl) dX4_paysRent_97 rfl (fun μ11 _ => ?_)
      refine g_iloadn K 2 rfl rfl 99 dX4_paysRent_98 rfl ?_
      refine g_iloadn K 3 rfl rfl 100 dX4_paysRent_99 rfl ?_
      refine g_jn (head := 112) (L := fun j12 => [(0, .ref am), (1, .int x1)]) (sf := fun j12 => []) (mf := fun j12 => j12) (fun j12 => ?_) (fun k13 h14 => ?_)
      · try dsimp only
        refine g_aloadn K 0 rfl rfl 113 dX4_paysRent_112 rfl ?_
        refine g_iloadn K 1 rfl rfl 114 dX4_paysRent_113 rfl ?_
        refine gm_call K hK hcl 117 (ct_areOut j12 x1) (lw_V q1927 q1929 qs100 q158 q1930) wd_areOut (by decide) rfl (Nat.le_of_ble_eq_true rfl) dX4_paysRent_114 rfl (fun r15 _ => ?_)
        exact gm_vret K hK hcl hr hlk dX4_paysRent_117 rfl
      · refine g_icmp_le K 103 112 dX4_paysRent_100 rfl (by decide) (fun _ => ?_) (fun _ => ?_)
        · refine g_sub (ls' := [(0, .ref am), (1, .int x1)]) [0, 1] rfl ?_
          exact h14 μ11
        · refine g_aloadn K 0 rfl rfl 104 dX4_paysRent_103 rfl ?_
          refine g_iconst K (nI 1) ic_1 105 dX4_paysRent_104 rfl ?_
          refine g_iloadn K 1 rfl rfl 106 dX4_paysRent_105 rfl ?_
          refine g_iloadn K 2 rfl rfl 107 dX4_paysRent_106 rfl ?_
          refine g_iloadn K 3 rfl rfl 108 dX4_paysRent_107 rfl ?_
          refine g_isub K 109 dX4_paysRent_108 rfl ?_
          refine gm_call K hK hcl 112 (ct_notes μ11 (nI 1) x1 (r1.1 - j2.1)) (lw_V q1923 q1925 qs99 q158 q1926) wd_notes (by decide) rfl (Nat.le_of_ble_eq_true rfl) dX4_paysRent_109 rfl (fun r16 _ => ?_)
          refine g_sub (ls' := [(0, .ref am), (1, .int x1)]) [0, 1] rfl ?_
          exact h14 r16
    · refine g_if_le K 69 76 dX4_paysRent_66 rfl (by decide) (fun _ => ?_) (fun _ => ?_)
      · exact h9 μ6
      · refine g_aloadn K 0 rfl rfl 70 dX4_paysRent_69 rfl ?_
        refine g_iconst K (nI 0) ic_0 71 dX4_paysRent_70 rfl ?_
        refine g_iloadn K 1 rfl rfl 72 dX4_paysRent_71 rfl ?_
        refine g_iloadn K 3 rfl rfl 73 dX4_paysRent_72 rfl ?_
        refine gm_call K hK hcl 76 (ct_notes μ6 (nI 0) x1 j2.1) (lw_V q1923 q1925 qs99 q158 q1926) wd_notes (by decide) rfl (Nat.le_of_ble_eq_true rfl) dX4_paysRent_73 rfl (fun r17 _ => ?_)
        exact h9 r17
  · refine g_lp (head := 8) (L := fun j18 => [(0, .ref am), (1, .int x1), (2, .int r1.1), (3, .int j18.1)]) (sf := fun j18 => []) (mf := fun j18 => j18.2) (fun again19 h20 j18 => ?_) fuel ((nI 0), r1.2)
    try dsimp only
    refine g_iloadn K 3 rfl rfl 9 dX4_paysRent_8 rfl ?_
    refine g_iloadn K 2 rfl rfl 10 dX4_paysRent_9 rfl ?_
    refine g_icmp_ge K 13 51 dX4_paysRent_10 rfl (by decide) (fun _ => ?_) (fun _ => ?_)
    · exact h4 (j18.1, j18.2)
    · refine g_aloadn K 0 rfl rfl 14 dX4_paysRent_13 rfl ?_
      refine g_iloadn K 1 rfl rfl 15 dX4_paysRent_14 rfl ?_
      refine gm_call K hK hcl 18 (ct_doesStand j18.2 x1) (lw_V q1911 q1913 qs96 q158 q1914) wd_doesStand (by decide) rfl (Nat.le_of_ble_eq_true rfl) dX4_paysRent_15 rfl (fun r21 _ => ?_)
      refine g_if_eq K 21 51 dX4_paysRent_18 rfl (by decide) (fun _ => ?_) (fun _ => ?_)
      · exact h4 (j18.1, j18.2)
      · refine g_aloadn K 0 rfl rfl 22 dX4_paysRent_21 rfl ?_
        refine g_iloadn K 1 rfl rfl 23 dX4_paysRent_22 rfl ?_
        refine gm_call K hK hcl 26 (ct_thickest j18.2 x1) (lw_V q1943 q1945 qs104 q158 q1946) wd_thickest (by decide) rfl (Nat.le_of_ble_eq_true rfl) dX4_paysRent_23 rfl (fun r22 _ => ?_)
        refine g_istore K [(0, .ref am), (1, .int x1), (2, .int r1.1), (3, .int j18.1), (4, .int r22)] [1, 2, 3, 4, 0] (by decide) rfl 28 dX4_paysRent_26 rfl ?_
        refine g_aloadn K 0 rfl rfl 29 dX4_paysRent_28 rfl ?_
        refine g_iloadn K 1 rfl rfl 30 dX4_paysRent_29 rfl ?_
        refine g_iload K 4 rfl 32 dX4_paysRent_30 rfl ?_
        refine g_aloadn K 0 rfl rfl 33 dX4_paysRent_32 rfl ?_
        refine g_iloadn K 1 rfl rfl 34 dX4_paysRent_33 rfl ?_
        refine g_iload K 4 rfl 36 dX4_paysRent_34 rfl ?_
        refine gm_call K hK hcl 39 (ct_wallOf j18.2 x1 r22) (lw_V q1903 q1905 qs94 q158 q1906) wd_wallOf (by decide) rfl (Nat.le_of_ble_eq_true rfl) dX4_paysRent_36 rfl (fun r23 _ => ?_)
        refine g_iconst K (nI 1) ic_1 40 dX4_paysRent_39 rfl ?_
        refine g_isub K 41 dX4_paysRent_40 rfl ?_
        refine gm_call K hK hcl 44 (ct_hasWall j18.2 x1 r22 (r23 - (nI 1))) (lw_V q1739 q1741 qs58 q158 q1742) wd_hasWall (by decide) rfl (Nat.le_of_ble_eq_true rfl) dX4_paysRent_41 rfl (fun r24 _ => ?_)
        refine g_iloadn K 3 rfl rfl 45 dX4_paysRent_44 rfl ?_
        refine g_iconst K (nI 1) ic_1 46 dX4_paysRent_45 rfl ?_
        refine g_iadd K 47 dX4_paysRent_46 rfl ?_
        refine g_istoren K [(0, .ref am), (1, .int x1), (2, .int r1.1), (3, .int (j18.1 + (nI 1)))] [1, 2, 3, 0] rfl (by decide) rfl 48 dX4_paysRent_47 rfl ?_
        refine g_goto K 8 dX4_paysRent_48 (by decide) ?_
        exact h20 ((j18.1 + (nI 1)), r24)
/-- gnawsOf(II)I -/
def m_gnawsOf (μ : Mem) (x1 : Int32) (x2 : Int32) : Option (Int32 × Mem) :=
  (m_wallOf μ x1 x2).bind fun r1 =>
  (m_asks μ x1 r1).bind fun r2 =>
  (rd r2 1 115 ((nI 55) + x1)).bind fun v3 =>
  (m_lawTells r2 (nI 1) ((nI 300) - ((nI 30) * v3)) (nI 1000)).bind fun r4 =>
  some (r4.1, r4.2)
theorem wd_gnawsOf : yX4_gnawsOf.cls = RX4 ∧ yX4_gnawsOf.cls ≠ "java/lang/invoke/MethodHandle" ∧ yX4_gnawsOf.cls ≠ "java/lang/invoke/VarHandle" ∧ (parseMethodDescriptor yX4_gnawsOf.desc).map (fun d => d.parameters.length) = some 2 := by decide +kernel
set_option maxRecDepth 100000 in
theorem ct_gnawsOf (μ : Mem) (x1 : Int32) (x2 : Int32) : CtM yX4_gnawsOf cX4_gnawsOf 3 (some .int) 4 94 [.int x1, .int x2] μ (fun r => (some (.int r.1), r.2)) (m_gnawsOf μ x1 x2) := by
  refine CtM.of (by decide) rfl (fun _ => Nat.le_of_ble_eq_true rfl) ?_
  intro l D cl ci cA am p e s m args below meth c hcl K hr hlk hK
  refine g_sub (ls' := [(0, .ref am), (1, .int x1), (2, .int x2)]) [0, 1, 2] rfl ?_
  unfold m_gnawsOf
  refine g_aloadn K 0 rfl rfl 1 dX4_gnawsOf_0 rfl ?_
  refine g_iloadn K 1 rfl rfl 2 dX4_gnawsOf_1 rfl ?_
  refine g_aloadn K 0 rfl rfl 3 dX4_gnawsOf_2 rfl ?_
  refine g_iloadn K 1 rfl rfl 4 dX4_gnawsOf_3 rfl ?_
  refine g_iloadn K 2 rfl rfl 5 dX4_gnawsOf_4 rfl ?_
  refine gm_call K hK hcl 8 (ct_wallOf μ x1 x2) (lw_V q1903 q1905 qs94 q158 q1906) wd_wallOf (by decide) rfl (Nat.le_of_ble_eq_true rfl) dX4_gnawsOf_5 rfl (fun r1 _ => ?_)
  refine gm_call K hK hcl 11 (ct_asks μ x1 r1) (lw_V q1983 q1985 qs113 q158 q1986) wd_asks (by decide) rfl (Nat.le_of_ble_eq_true rfl) dX4_gnawsOf_8 rfl (fun r2 _ => ?_)
  refine g_aloadn K 0 rfl rfl 12 dX4_gnawsOf_11 rfl ?_
  refine g_iconst K (nI 1) ic_1 13 dX4_gnawsOf_12 rfl ?_
  refine g_sipush K (nI 300) sp_300 16 dX4_gnawsOf_13 rfl ?_
  refine g_bipush K (nI 30) bp_30 18 dX4_gnawsOf_16 rfl ?_
  refine g_aloadn K 0 rfl rfl 19 dX4_gnawsOf_18 rfl ?_
  refine gm_get K hK hcl 1 22 (by decide) q1486 rfl dX4_gnawsOf_19 rfl ?_
  refine g_bipush K (nI 55) bp_55 24 dX4_gnawsOf_22 rfl ?_
  refine g_iloadn K 1 rfl rfl 25 dX4_gnawsOf_24 rfl ?_
  refine g_iadd K 26 dX4_gnawsOf_25 rfl ?_
  refine gm_ald K hK hcl 1 1 115 27 rfl dX4_gnawsOf_26 rfl (fun v3 _ => ?_)
  refine g_imul K 28 dX4_gnawsOf_27 rfl ?_
  refine g_isub K 29 dX4_gnawsOf_28 rfl ?_
  refine g_sipush K (nI 1000) sp_1000 32 dX4_gnawsOf_29 rfl ?_
  refine gm_call K hK hcl 35 (ct_lawTells r2 (nI 1) ((nI 300) - ((nI 30) * v3)) (nI 1000)) (lw_V q1987 q1989 qs114 q158 q1990) wd_lawTells (by decide) rfl (Nat.le_of_ble_eq_true rfl) dX4_gnawsOf_32 rfl (fun r4 _ => ?_)
  exact gm_iret K hK hcl hr hlk dX4_gnawsOf_35 rfl
/-- draw(I)I -/
def m_draw (μ : Mem) (x1 : Int32) : Option (Int32 × Mem) :=
  (rd μ 1 115 (nI 1)).bind fun v1 =>
  (wr μ 1 115 (nI 1) (((1664525 : Int32) * v1) + (1013904223 : Int32))).bind fun μ2 =>
  (rd μ2 1 115 (nI 1)).bind fun v3 =>
  (iremO (ush v3 (nI 8)) x1).bind fun v4 =>
  some (v4, μ2)
theorem wd_draw : yX4_draw.cls = RX4 ∧ yX4_draw.cls ≠ "java/lang/invoke/MethodHandle" ∧ yX4_draw.cls ≠ "java/lang/invoke/VarHandle" ∧ (parseMethodDescriptor yX4_draw.desc).map (fun d => d.parameters.length) = some 1 := by decide +kernel
set_option maxRecDepth 100000 in
theorem ct_draw (μ : Mem) (x1 : Int32) : CtM yX4_draw cX4_draw 2 (some .int) 0 0 [.int x1] μ (fun r => (some (.int r.1), r.2)) (m_draw μ x1) := by
  refine CtM.of (by decide) rfl (fun _ => Nat.le_of_ble_eq_true rfl) ?_
  intro l D cl ci cA am p e s m args below meth c hcl K hr hlk hK
  refine g_sub (ls' := [(0, .ref am), (1, .int x1)]) [0, 1] rfl ?_
  unfold m_draw
  refine g_aloadn K 0 rfl rfl 1 dX4_draw_0 rfl ?_
  refine gm_get K hK hcl 1 4 (by decide) q1486 rfl dX4_draw_1 rfl ?_
  refine g_iconst K (nI 1) ic_1 5 dX4_draw_4 rfl ?_
  refine g_ldc K q2015 7 dX4_draw_5 rfl ?_
  refine g_aloadn K 0 rfl rfl 8 dX4_draw_7 rfl ?_
  refine gm_get K hK hcl 1 11 (by decide) q1486 rfl dX4_draw_8 rfl ?_
  refine g_iconst K (nI 1) ic_1 12 dX4_draw_11 rfl ?_
  refine gm_ald K hK hcl 1 1 115 13 rfl dX4_draw_12 rfl (fun v1 _ => ?_)
  refine g_imul K 14 dX4_draw_13 rfl ?_
  refine g_ldc K q2016 16 dX4_draw_14 rfl ?_
  refine g_iadd K 17 dX4_draw_16 rfl ?_
  refine gm_ast K hK hcl 1 1 115 18 rfl (fun _ => rfl) dX4_draw_17 rfl (fun μ2 _ => ?_)
  refine g_aloadn K 0 rfl rfl 19 dX4_draw_18 rfl ?_
  refine gm_get K hK hcl 1 22 (by decide) q1486 rfl dX4_draw_19 rfl ?_
  refine g_iconst K (nI 1) ic_1 23 dX4_draw_22 rfl ?_
  refine gm_ald K hK hcl 1 1 115 24 rfl dX4_draw_23 rfl (fun v3 _ => ?_)
  refine g_bipush K (nI 8) bp_8 26 dX4_draw_24 rfl ?_
  refine g_iushr K 27 dX4_draw_26 rfl ?_
  refine g_iloadn K 1 rfl rfl 28 dX4_draw_27 rfl ?_
  refine g_irem K 29 dX4_draw_28 rfl (fun v4 _ _ => ?_)
  exact gm_iret K hK hcl hr hlk dX4_draw_29 rfl
/-- isGnawed(I)V -/
def m_isGnawed (μ : Mem) (x1 : Int32) : Option (Mem) :=
  jn (fun (j1 : Int32 × Mem) =>
  (rd j1.2 1 115 (nI 6)).bind fun v4 =>
  (wr j1.2 1 115 (nI 6) (v4 + j1.1)).bind fun μ5 =>
  if j1.1 ≤ 0 then
  some μ5
  else
  (m_notes μ5 (nI 2) x1 j1.1).bind fun r6 =>
  some r6) (fun k2 =>
  lp (fun again8 (j7 : Int32 × Int32 × Mem) =>
  if (nI 4) ≤ j7.2.1 then
  k2 (j7.1, j7.2.2)
  else
  (m_wallOf j7.2.2 x1 j7.2.1).bind fun r10 =>
  if r10 = 0 then
  again8 (j7.1, (j7.2.1 + (nI 1)), j7.2.2)
  else
  (m_gnawsOf j7.2.2 x1 j7.2.1).bind fun r11 =>
  jn (fun (j12 : Int32 × Mem) =>
  if j12.1 = 0 then
  again8 (j7.1, (j7.2.1 + (nI 1)), j12.2)
  else
  (m_wallOf j12.2 x1 j7.2.1).bind fun r15 =>
  (m_hasWall j12.2 x1 j7.2.1 (r15 - (nI 1))).bind fun r16 =>
  again8 ((j7.1 + (nI 1)), (j7.2.1 + (nI 1)), r16)) (fun k13 =>
  if (r11.2 5 0) = 0 then
  if r11.1 ≤ 0 then
  k13 ((nI 0), r11.2)
  else
  (m_draw r11.2 (nI 1000)).bind fun r17 =>
  if r11.1 ≤ r17.1 then
  k13 ((nI 0), r17.2)
  else
  k13 ((nI 1), r17.2)
  else
  if ((nI 2) * r11.1) < (nI 1000) then
  k13 ((nI 0), r11.2)
  else
  k13 ((nI 1), r11.2))) fuel ((nI 0), (nI 0), μ))
theorem wd_isGnawed : yX4_isGnawed.cls = RX4 ∧ yX4_isGnawed.cls ≠ "java/lang/invoke/MethodHandle" ∧ yX4_isGnawed.cls ≠ "java/lang/invoke/VarHandle" ∧ (parseMethodDescriptor yX4_isGnawed.desc).map (fun d => d.parameters.length) = some 1 := by decide +kernel
set_option maxRecDepth 100000 in
theorem ct_isGnawed (μ : Mem) (x1 : Int32) : CtM yX4_isGnawed cX4_isGnawed 6 none 5 116 [.int x1] μ (fun r => (none, r)) (m_isGnawed μ x1) := by
  refine CtM.of (by decide) rfl (fun _ => Nat.le_of_ble_eq_true rfl) ?_
  intro l D cl ci cA am p e s m args below meth c hcl K hr hlk hK
  refine g_sub (ls' := [(0, .ref am), (1, .int x1)]) [0, 1] rfl ?_
  unfold m_isGnawed
  refine g_iconst K (nI 0) ic_0 1 dX4_isGnawed_0 rfl ?_
  refine g_istoren K [(0, .ref am), (1, .int x1), (2, .int (nI 0))] [1, 2, 0] rfl (by decide) rfl 2 dX4_isGnawed_1 rfl ?_
  refine g_iconst K (nI 0) ic_0 3 dX4_isGnawed_2 rfl ?_
  refine g_istoren K [(0, .ref am), (1, .int x1), (2, .int (nI 0)), (3, .int (nI 0))] [1, 2, 3, 0] rfl (by decide) rfl 4 dX4_isGnawed_3 rfl ?_
  refine g_jn (head := 110) (L := fun j1 => [(0, .ref am), (1, .int x1), (2, .int j1.1)]) (sf := fun j1 => []) (mf := fun j1 => j1.2) (fun j1 => ?_) (fun k2 h3 => ?_)
  · try dsimp only
    refine g_aloadn K 0 rfl rfl 111 dX4_isGnawed_110 rfl ?_
    refine gm_get K hK hcl 1 114 (by decide) q1486 rfl dX4_isGnawed_111 rfl ?_
    refine g_bipush K (nI 6) bp_6 116 dX4_isGnawed_114 rfl ?_
    refine g_aloadn K 0 rfl rfl 117 dX4_isGnawed_116 rfl ?_
    refine gm_get K hK hcl 1 120 (by decide) q1486 rfl dX4_isGnawed_117 rfl ?_
    refine g_bipush K (nI 6) bp_6 122 dX4_isGnawed_120 rfl ?_
    refine gm_ald K hK hcl 1 1 115 123 rfl dX4_isGnawed_122 rfl (fun v4 _ => ?_)
    refine g_iloadn K 2 rfl rfl 124 dX4_isGnawed_123 rfl ?_
    refine g_iadd K 125 dX4_isGnawed_124 rfl ?_
    refine gm_ast K hK hcl 1 1 115 126 rfl (fun _ => rfl) dX4_isGnawed_125 rfl (fun μ5 _ => ?_)
    refine g_iloadn K 2 rfl rfl 127 dX4_isGnawed_126 rfl ?_
    refine g_if_le K 130 137 dX4_isGnawed_127 rfl (by decide) (fun _ => ?_) (fun _ => ?_)
    · exact gm_vret K hK hcl hr hlk dX4_isGnawed_137 rfl
    · refine g_aloadn K 0 rfl rfl 131 dX4_isGnawed_130 rfl ?_
      refine g_iconst K (nI 2) ic_2 132 dX4_isGnawed_131 rfl ?_
      refine g_iloadn K 1 rfl rfl 133 dX4_isGnawed_132 rfl ?_
      refine g_iloadn K 2 rfl rfl 134 dX4_isGnawed_133 rfl ?_
      refine gm_call K hK hcl 137 (ct_notes μ5 (nI 2) x1 j1.1) (lw_V q1923 q1925 qs99 q158 q1926) wd_notes (by decide) rfl (Nat.le_of_ble_eq_true rfl) dX4_isGnawed_134 rfl (fun r6 _ => ?_)
      exact gm_vret K hK hcl hr hlk dX4_isGnawed_137 rfl
  · refine g_lp (head := 4) (L := fun j7 => [(0, .ref am), (1, .int x1), (2, .int j7.1), (3, .int j7.2.1)]) (sf := fun j7 => []) (mf := fun j7 => j7.2.2) (fun again8 h9 j7 => ?_) fuel ((nI 0), (nI 0), μ)
    try dsimp only
    refine g_iloadn K 3 rfl rfl 5 dX4_isGnawed_4 rfl ?_
    refine g_iconst K (nI 4) ic_4 6 dX4_isGnawed_5 rfl ?_
    refine g_icmp_ge K 9 110 dX4_isGnawed_6 rfl (by decide) (fun _ => ?_) (fun _ => ?_)
    · refine g_sub (ls' := [(0, .ref am), (1, .int x1), (2, .int j7.1)]) [0, 1, 2] rfl ?_
      exact h3 (j7.1, j7.2.2)
    · refine g_aloadn K 0 rfl rfl 10 dX4_isGnawed_9 rfl ?_
      refine g_iloadn K 1 rfl rfl 11 dX4_isGnawed_10 rfl ?_
      refine g_iloadn K 3 rfl rfl 12 dX4_isGnawed_11 rfl ?_
      refine gm_call K hK hcl 15 (ct_wallOf j7.2.2 x1 j7.2.1) (lw_V q1903 q1905 qs94 q158 q1906) wd_wallOf (by decide) rfl (Nat.le_of_ble_eq_true rfl) dX4_isGnawed_12 rfl (fun r10 _ => ?_)
      refine g_if_ne K 18 21 dX4_isGnawed_15 rfl (by decide) (fun _ => ?_) (fun _ => ?_)
      · refine g_goto K 104 dX4_isGnawed_18 (by decide) ?_
        refine g_iinc K (j7.2.1 + (nI 1)) 3 [(0, .ref am), (1, .int x1), (2, .int j7.1), (3, .int (j7.2.1 + (nI 1)))] [1, 2, 3, 0] rfl (by rw [ic_1]) (by decide) rfl 107 dX4_isGnawed_104 rfl ?_
        refine g_goto K 4 dX4_isGnawed_107 (by decide) ?_
        exact h9 (j7.1, (j7.2.1 + (nI 1)), j7.2.2)
      · refine g_aloadn K 0 rfl rfl 22 dX4_isGnawed_21 rfl ?_
        refine g_iloadn K 1 rfl rfl 23 dX4_isGnawed_22 rfl ?_
        refine g_iloadn K 3 rfl rfl 24 dX4_isGnawed_23 rfl ?_
        refine gm_call K hK hcl 27 (ct_gnawsOf j7.2.2 x1 j7.2.1) (lw_V q2007 q2009 qs119 q158 q2010) wd_gnawsOf (by decide) rfl (Nat.le_of_ble_eq_true rfl) dX4_isGnawed_24 rfl (fun r11 _ => ?_)
        refine g_istore K [(0, .ref am), (1, .int x1), (2, .int j7.1), (3, .int j7.2.1), (4, .int r11.1)] [1, 2, 3, 4, 0] (by decide) rfl 29 dX4_isGnawed_27 rfl ?_
        refine g_aloadn K 0 rfl rfl 30 dX4_isGnawed_29 rfl ?_
        refine gm_get K hK hcl 5 33 (by decide) q1490 rfl dX4_isGnawed_30 rfl ?_
        refine g_jn (head := 76) (L := fun j12 => [(0, .ref am), (1, .int x1), (2, .int j7.1), (3, .int j7.2.1)]) (sf := fun j12 => [.int j12.1]) (mf := fun j12 => j12.2) (fun j12 => ?_) (fun k13 h14 => ?_)
        · try dsimp only
          refine g_istore K [(0, .ref am), (1, .int x1), (2, .int j7.1), (3, .int j7.2.1), (5, .int j12.1)] [1, 2, 3, 4, 0] (by decide) rfl 78 dX4_isGnawed_76 rfl ?_
          refine g_iload K 4 rfl 80 dX4_isGnawed_78 rfl ?_
          refine g_if_ne K 83 86 dX4_isGnawed_80 rfl (by decide) (fun _ => ?_) (fun _ => ?_)
          · refine g_goto K 104 dX4_isGnawed_83 (by decide) ?_
            refine g_iinc K (j7.2.1 + (nI 1)) 3 [(0, .ref am), (1, .int x1), (2, .int j7.1), (3, .int (j7.2.1 + (nI 1)))] [1, 2, 3, 0] rfl (by rw [ic_1]) (by decide) rfl 107 dX4_isGnawed_104 rfl ?_
            refine g_goto K 4 dX4_isGnawed_107 (by decide) ?_
            exact h9 (j7.1, (j7.2.1 + (nI 1)), j12.2)
          · refine g_aloadn K 0 rfl rfl 87 dX4_isGnawed_86 rfl ?_
            refine g_iloadn K 1 rfl rfl 88 dX4_isGnawed_87 rfl ?_
            refine g_iloadn K 3 rfl rfl 89 dX4_isGnawed_88 rfl ?_
            refine g_aloadn K 0 rfl rfl 90 dX4_isGnawed_89 rfl ?_
            refine g_iloadn K 1 rfl rfl 91 dX4_isGnawed_90 rfl ?_
            refine g_iloadn K 3 rfl rfl 92 dX4_isGnawed_91 rfl ?_
            refine gm_call K hK hcl 95 (ct_wallOf j12.2 x1 j7.2.1) (lw_V q1903 q1905 qs94 q158 q1906) wd_wallOf (by decide) rfl (Nat.le_of_ble_eq_true rfl) dX4_isGnawed_92 rfl (fun r15 _ => ?_)
            refine g_iconst K (nI 1) ic_1 96 dX4_isGnawed_95 rfl ?_
            refine g_isub K 97 dX4_isGnawed_96 rfl ?_
            refine gm_call K hK hcl 100 (ct_hasWall j12.2 x1 j7.2.1 (r15 - (nI 1))) (lw_V q1739 q1741 qs58 q158 q1742) wd_hasWall (by decide) rfl (Nat.le_of_ble_eq_true rfl) dX4_isGnawed_97 rfl (fun r16 _ => ?_)
            refine g_iloadn K 2 rfl rfl 101 dX4_isGnawed_100 rfl ?_
            refine g_iconst K (nI 1) ic_1 102 dX4_isGnawed_101 rfl ?_
            refine g_iadd K 103 dX4_isGnawed_102 rfl ?_
            refine g_istoren K [(0, .ref am), (1, .int x1), (2, .int (j7.1 + (nI 1))), (3, .int j7.2.1)] [1, 2, 0, 3] rfl (by decide) rfl 104 dX4_isGnawed_103 rfl ?_
            refine g_iinc K (j7.2.1 + (nI 1)) 3 [(0, .ref am), (1, .int x1), (2, .int (j7.1 + (nI 1))), (3, .int (j7.2.1 + (nI 1)))] [1, 2, 3, 0] rfl (by rw [ic_1]) (by decide) rfl 107 dX4_isGnawed_104 rfl ?_
            refine g_goto K 4 dX4_isGnawed_107 (by decide) ?_
            exact h9 ((j7.1 + (nI 1)), (j7.2.1 + (nI 1)), r16)
        · refine g_if_eq K 36 54 dX4_isGnawed_33 rfl (by decide) (fun _ => ?_) (fun _ => ?_)
          · refine g_iload K 4 rfl 56 dX4_isGnawed_54 rfl ?_
            refine g_if_le K 59 75 dX4_isGnawed_56 rfl (by decide) (fun _ => ?_) (fun _ => ?_)
            · refine g_iconst K (nI 0) ic_0 76 dX4_isGnawed_75 rfl ?_
              refine g_sub (ls' := [(0, .ref am), (1, .int x1), (2, .int j7.1), (3, .int j7.2.1)]) [0, 1, 2, 3] rfl ?_
              exact h14 ((nI 0), r11.2)
            · refine g_aloadn K 0 rfl rfl 60 dX4_isGnawed_59 rfl ?_
              refine g_sipush K (nI 1000) sp_1000 63 dX4_isGnawed_60 rfl ?_
              refine gm_call K hK hcl 66 (ct_draw r11.2 (nI 1000)) (lw_V q2011 q2013 qs120 q158 q2014) wd_draw (by decide) rfl (Nat.le_of_ble_eq_true rfl) dX4_isGnawed_63 rfl (fun r17 _ => ?_)
              refine g_iload K 4 rfl 68 dX4_isGnawed_66 rfl ?_
              refine g_icmp_ge K 71 75 dX4_isGnawed_68 rfl (by decide) (fun _ => ?_) (fun _ => ?_)
              · refine g_iconst K (nI 0) ic_0 76 dX4_isGnawed_75 rfl ?_
                refine g_sub (ls' := [(0, .ref am), (1, .int x1), (2, .int j7.1), (3, .int j7.2.1)]) [0, 1, 2, 3] rfl ?_
                exact h14 ((nI 0), r17.2)
              · refine g_iconst K (nI 1) ic_1 72 dX4_isGnawed_71 rfl ?_
                refine g_goto K 76 dX4_isGnawed_72 (by decide) ?_
                refine g_sub (ls' := [(0, .ref am), (1, .int x1), (2, .int j7.1), (3, .int j7.2.1)]) [0, 1, 2, 3] rfl ?_
                exact h14 ((nI 1), r17.2)
          · refine g_iconst K (nI 2) ic_2 37 dX4_isGnawed_36 rfl ?_
            refine g_iload K 4 rfl 39 dX4_isGnawed_37 rfl ?_
            refine g_imul K 40 dX4_isGnawed_39 rfl ?_
            refine g_sipush K (nI 1000) sp_1000 43 dX4_isGnawed_40 rfl ?_
            refine g_icmp_lt K 46 50 dX4_isGnawed_43 rfl (by decide) (fun _ => ?_) (fun _ => ?_)
            · refine g_iconst K (nI 0) ic_0 51 dX4_isGnawed_50 rfl ?_
              refine g_goto K 76 dX4_isGnawed_51 (by decide) ?_
              refine g_sub (ls' := [(0, .ref am), (1, .int x1), (2, .int j7.1), (3, .int j7.2.1)]) [0, 1, 2, 3] rfl ?_
              exact h14 ((nI 0), r11.2)
            · refine g_iconst K (nI 1) ic_1 47 dX4_isGnawed_46 rfl ?_
              refine g_goto K 76 dX4_isGnawed_47 (by decide) ?_
              refine g_sub (ls' := [(0, .ref am), (1, .int x1), (2, .int j7.1), (3, .int j7.2.1)]) [0, 1, 2, 3] rfl ?_
              exact h14 ((nI 1), r11.2)
/-- meltsOf(II)I -/
def m_meltsOf (μ : Mem) (x1 : Int32) (x2 : Int32) : Option (Int32 × Mem) :=
  (m_wallOf μ x1 x2).bind fun r1 =>
  (m_asks μ x1 r1).bind fun r2 =>
  (rd r2 1 115 (nI 3)).bind fun v3 =>
  (rd r2 1 115 ((nI 55) + x1)).bind fun v4 =>
  (m_lawTells r2 (nI 2) (v3 - v4) (nI 99)).bind fun r5 =>
  some (r5.1, r5.2)
theorem wd_meltsOf : yX4_meltsOf.cls = RX4 ∧ yX4_meltsOf.cls ≠ "java/lang/invoke/MethodHandle" ∧ yX4_meltsOf.cls ≠ "java/lang/invoke/VarHandle" ∧ (parseMethodDescriptor yX4_meltsOf.desc).map (fun d => d.parameters.length) = some 2 := by decide +kernel
set_option maxRecDepth 100000 in
theorem ct_meltsOf (μ : Mem) (x1 : Int32) (x2 : Int32) : CtM yX4_meltsOf cX4_meltsOf 3 (some .int) 4 94 [.int x1, .int x2] μ (fun r => (some (.int r.1), r.2)) (m_meltsOf μ x1 x2) := by
  refine CtM.of (by decide) rfl (fun _ => Nat.le_of_ble_eq_true rfl) ?_
  intro l D cl ci cA am p e s m args below meth c hcl K hr hlk hK
  refine g_sub (ls' := [(0, .ref am), (1, .int x1), (2, .int x2)]) [0, 1, 2] rfl ?_
  unfold m_meltsOf
  refine g_aloadn K 0 rfl rfl 1 dX4_meltsOf_0 rfl ?_
  refine g_iloadn K 1 rfl rfl 2 dX4_meltsOf_1 rfl ?_
  refine g_aloadn K 0 rfl rfl 3 dX4_meltsOf_2 rfl ?_
  refine g_iloadn K 1 rfl rfl 4 dX4_meltsOf_3 rfl ?_
  refine g_iloadn K 2 rfl rfl 5 dX4_meltsOf_4 rfl ?_
  refine gm_call K hK hcl 8 (ct_wallOf μ x1 x2) (lw_V q1903 q1905 qs94 q158 q1906) wd_wallOf (by decide) rfl (Nat.le_of_ble_eq_true rfl) dX4_meltsOf_5 rfl (fun r1 _ => ?_)
  refine gm_call K hK hcl 11 (ct_asks μ x1 r1) (lw_V q1983 q1985 qs113 q158 q1986) wd_asks (by decide) rfl (Nat.le_of_ble_eq_true rfl) dX4_meltsOf_8 rfl (fun r2 _ => ?_)
  refine g_aloadn K 0 rfl rfl 12 dX4_meltsOf_11 rfl ?_
  refine g_iconst K (nI 2) ic_2 13 dX4_meltsOf_12 rfl ?_
  refine g_aloadn K 0 rfl rfl 14 dX4_meltsOf_13 rfl ?_
  refine gm_get K hK hcl 1 17 (by decide) q1486 rfl dX4_meltsOf_14 rfl ?_
  refine g_iconst K (nI 3) ic_3 18 dX4_meltsOf_17 rfl ?_
  refine gm_ald K hK hcl 1 1 115 19 rfl dX4_meltsOf_18 rfl (fun v3 _ => ?_)
  refine g_aloadn K 0 rfl rfl 20 dX4_meltsOf_19 rfl ?_
  refine gm_get K hK hcl 1 23 (by decide) q1486 rfl dX4_meltsOf_20 rfl ?_
  refine g_bipush K (nI 55) bp_55 25 dX4_meltsOf_23 rfl ?_
  refine g_iloadn K 1 rfl rfl 26 dX4_meltsOf_25 rfl ?_
  refine g_iadd K 27 dX4_meltsOf_26 rfl ?_
  refine gm_ald K hK hcl 1 1 115 28 rfl dX4_meltsOf_27 rfl (fun v4 _ => ?_)
  refine g_isub K 29 dX4_meltsOf_28 rfl ?_
  refine g_bipush K (nI 99) bp_99 31 dX4_meltsOf_29 rfl ?_
  refine gm_call K hK hcl 34 (ct_lawTells r2 (nI 2) (v3 - v4) (nI 99)) (lw_V q1987 q1989 qs114 q158 q1990) wd_lawTells (by decide) rfl (Nat.le_of_ble_eq_true rfl) dX4_meltsOf_31 rfl (fun r5 _ => ?_)
  exact gm_iret K hK hcl hr hlk dX4_meltsOf_34 rfl
/-- lesser(II)I -/
def m_lesser (μ : Mem) (x1 : Int32) (x2 : Int32) : Option (Int32) :=
  if x2 ≤ x1 then
  some x2
  else
  some x1
theorem wd_lesser : yX4_lesser.cls = RX4 ∧ yX4_lesser.cls ≠ "java/lang/invoke/MethodHandle" ∧ yX4_lesser.cls ≠ "java/lang/invoke/VarHandle" ∧ (parseMethodDescriptor yX4_lesser.desc).map (fun d => d.parameters.length) = some 2 := by decide +kernel
set_option maxRecDepth 100000 in
theorem ct_lesser (μ : Mem) (x1 : Int32) (x2 : Int32) : CtM yX4_lesser cX4_lesser 3 (some .int) 0 0 [.int x1, .int x2] μ (fun r => (some (.int r), μ)) (m_lesser μ x1 x2) := by
  refine CtM.of (by decide) rfl (fun _ => Nat.le_of_ble_eq_true rfl) ?_
  intro l D cl ci cA am p e s m args below meth c hcl K hr hlk hK
  refine g_sub (ls' := [(0, .ref am), (1, .int x1), (2, .int x2)]) [0, 1, 2] rfl ?_
  unfold m_lesser
  refine g_iloadn K 1 rfl rfl 1 dX4_lesser_0 rfl ?_
  refine g_iloadn K 2 rfl rfl 2 dX4_lesser_1 rfl ?_
  refine g_icmp_ge K 5 9 dX4_lesser_2 rfl (by decide) (fun _ => ?_) (fun _ => ?_)
  · refine g_iloadn K 2 rfl rfl 10 dX4_lesser_9 rfl ?_
    exact gm_iret K hK hcl hr hlk dX4_lesser_10 rfl
  · refine g_iloadn K 1 rfl rfl 6 dX4_lesser_5 rfl ?_
    refine g_goto K 10 dX4_lesser_6 (by decide) ?_
    exact gm_iret K hK hcl hr hlk dX4_lesser_10 rfl
/-- doesMelt(I)V -/
def m_doesMelt (μ : Mem) (x1 : Int32) : Option (Mem) :=
  jn (fun (j1 : Int32 × Mem) =>
  if j1.1 ≤ 0 then
  some j1.2
  else
  (m_notes j1.2 (nI 3) x1 j1.1).bind fun r4 =>
  some r4) (fun k2 =>
  lp (fun again6 (j5 : Int32 × Int32 × Mem) =>
  if (nI 4) ≤ j5.2.1 then
  k2 (j5.1, j5.2.2)
  else
  (rd j5.2.2 1 115 (nI 4)).bind fun v8 =>
  if v8 = 0 then
  (m_wallOf j5.2.2 x1 j5.2.1).bind fun r9 =>
  jn (fun (j10 : Int32 × Mem) =>
  (m_wallOf j10.2 x1 j5.2.1).bind fun r13 =>
  (m_hasWall j10.2 x1 j5.2.1 (r13 - j10.1)).bind fun r14 =>
  again6 ((j5.1 + j10.1), (j5.2.1 + (nI 1)), r14)) (fun k11 =>
  if r9 = 0 then
  k11 ((nI 0), j5.2.2)
  else
  (m_wallOf j5.2.2 x1 j5.2.1).bind fun r15 =>
  (m_meltsOf j5.2.2 x1 j5.2.1).bind fun r16 =>
  (m_lesser r16.2 r15 r16.1).bind fun r17 =>
  k11 (r17, r16.2))
  else
  k2 (j5.1, j5.2.2)) fuel ((nI 0), (nI 0), μ))
theorem wd_doesMelt : yX4_doesMelt.cls = RX4 ∧ yX4_doesMelt.cls ≠ "java/lang/invoke/MethodHandle" ∧ yX4_doesMelt.cls ≠ "java/lang/invoke/VarHandle" ∧ (parseMethodDescriptor yX4_doesMelt.desc).map (fun d => d.parameters.length) = some 1 := by decide +kernel
set_option maxRecDepth 100000 in
theorem ct_doesMelt (μ : Mem) (x1 : Int32) : CtM yX4_doesMelt cX4_doesMelt 5 none 5 116 [.int x1] μ (fun r => (none, r)) (m_doesMelt μ x1) := by
  refine CtM.of (by decide) rfl (fun _ => Nat.le_of_ble_eq_true rfl) ?_
  intro l D cl ci cA am p e s m args below meth c hcl K hr hlk hK
  refine g_sub (ls' := [(0, .ref am), (1, .int x1)]) [0, 1] rfl ?_
  unfold m_doesMelt
  refine g_iconst K (nI 0) ic_0 1 dX4_doesMelt_0 rfl ?_
  refine g_istoren K [(0, .ref am), (1, .int x1), (2, .int (nI 0))] [1, 2, 0] rfl (by decide) rfl 2 dX4_doesMelt_1 rfl ?_
  refine g_iconst K (nI 0) ic_0 3 dX4_doesMelt_2 rfl ?_
  refine g_istoren K [(0, .ref am), (1, .int x1), (2, .int (nI 0)), (3, .int (nI 0))] [1, 2, 3, 0] rfl (by decide) rfl 4 dX4_doesMelt_3 rfl ?_
  refine g_jn (head := 75) (L := fun j1 => [(0, .ref am), (1, .int x1), (2, .int j1.1)]) (sf := fun j1 => []) (mf := fun j1 => j1.2) (fun j1 => ?_) (fun k2 h3 => ?_)
  · try dsimp only
    refine g_iloadn K 2 rfl rfl 76 dX4_doesMelt_75 rfl ?_
    refine g_if_le K 79 86 dX4_doesMelt_76 rfl (by decide) (fun _ => ?_) (fun _ => ?_)
    · exact gm_vret K hK hcl hr hlk dX4_doesMelt_86 rfl
    · refine g_aloadn K 0 rfl rfl 80 dX4_doesMelt_79 rfl ?_
      refine g_iconst K (nI 3) ic_3 81 dX4_doesMelt_80 rfl ?_
      refine g_iloadn K 1 rfl rfl 82 dX4_doesMelt_81 rfl ?_
      refine g_iloadn K 2 rfl rfl 83 dX4_doesMelt_82 rfl ?_
      refine gm_call K hK hcl 86 (ct_notes j1.2 (nI 3) x1 j1.1) (lw_V q1923 q1925 qs99 q158 q1926) wd_notes (by decide) rfl (Nat.le_of_ble_eq_true rfl) dX4_doesMelt_83 rfl (fun r4 _ => ?_)
      exact gm_vret K hK hcl hr hlk dX4_doesMelt_86 rfl
  · refine g_lp (head := 4) (L := fun j5 => [(0, .ref am), (1, .int x1), (2, .int j5.1), (3, .int j5.2.1)]) (sf := fun j5 => []) (mf := fun j5 => j5.2.2) (fun again6 h7 j5 => ?_) fuel ((nI 0), (nI 0), μ)
    try dsimp only
    refine g_iloadn K 3 rfl rfl 5 dX4_doesMelt_4 rfl ?_
    refine g_iconst K (nI 4) ic_4 6 dX4_doesMelt_5 rfl ?_
    refine g_icmp_ge K 9 75 dX4_doesMelt_6 rfl (by decide) (fun _ => ?_) (fun _ => ?_)
    · refine g_sub (ls' := [(0, .ref am), (1, .int x1), (2, .int j5.1)]) [0, 1, 2] rfl ?_
      exact h3 (j5.1, j5.2.2)
    · refine g_aloadn K 0 rfl rfl 10 dX4_doesMelt_9 rfl ?_
      refine gm_get K hK hcl 1 13 (by decide) q1486 rfl dX4_doesMelt_10 rfl ?_
      refine g_iconst K (nI 4) ic_4 14 dX4_doesMelt_13 rfl ?_
      refine gm_ald K hK hcl 1 1 115 15 rfl dX4_doesMelt_14 rfl (fun v8 _ => ?_)
      refine g_if_ne K 18 75 dX4_doesMelt_15 rfl (by decide) (fun _ => ?_) (fun _ => ?_)
      · refine g_aloadn K 0 rfl rfl 19 dX4_doesMelt_18 rfl ?_
        refine g_iloadn K 1 rfl rfl 20 dX4_doesMelt_19 rfl ?_
        refine g_iloadn K 3 rfl rfl 21 dX4_doesMelt_20 rfl ?_
        refine gm_call K hK hcl 24 (ct_wallOf j5.2.2 x1 j5.2.1) (lw_V q1903 q1905 qs94 q158 q1906) wd_wallOf (by decide) rfl (Nat.le_of_ble_eq_true rfl) dX4_doesMelt_21 rfl (fun r9 _ => ?_)
        refine g_jn (head := 47) (L := fun j10 => [(0, .ref am), (1, .int x1), (2, .int j5.1), (3, .int j5.2.1)]) (sf := fun j10 => [.int j10.1]) (mf := fun j10 => j10.2) (fun j10 => ?_) (fun k11 h12 => ?_)
        · try dsimp only
          refine g_istore K [(0, .ref am), (1, .int x1), (2, .int j5.1), (3, .int j5.2.1), (4, .int j10.1)] [1, 2, 3, 4, 0] (by decide) rfl 49 dX4_doesMelt_47 rfl ?_
          refine g_aloadn K 0 rfl rfl 50 dX4_doesMelt_49 rfl ?_
          refine g_iloadn K 1 rfl rfl 51 dX4_doesMelt_50 rfl ?_
          refine g_iloadn K 3 rfl rfl 52 dX4_doesMelt_51 rfl ?_
          refine g_aloadn K 0 rfl rfl 53 dX4_doesMelt_52 rfl ?_
          refine g_iloadn K 1 rfl rfl 54 dX4_doesMelt_53 rfl ?_
          refine g_iloadn K 3 rfl rfl 55 dX4_doesMelt_54 rfl ?_
          refine gm_call K hK hcl 58 (ct_wallOf j10.2 x1 j5.2.1) (lw_V q1903 q1905 qs94 q158 q1906) wd_wallOf (by decide) rfl (Nat.le_of_ble_eq_true rfl) dX4_doesMelt_55 rfl (fun r13 _ => ?_)
          refine g_iload K 4 rfl 60 dX4_doesMelt_58 rfl ?_
          refine g_isub K 61 dX4_doesMelt_60 rfl ?_
          refine gm_call K hK hcl 64 (ct_hasWall j10.2 x1 j5.2.1 (r13 - j10.1)) (lw_V q1739 q1741 qs58 q158 q1742) wd_hasWall (by decide) rfl (Nat.le_of_ble_eq_true rfl) dX4_doesMelt_61 rfl (fun r14 _ => ?_)
          refine g_iloadn K 2 rfl rfl 65 dX4_doesMelt_64 rfl ?_
          refine g_iload K 4 rfl 67 dX4_doesMelt_65 rfl ?_
          refine g_iadd K 68 dX4_doesMelt_67 rfl ?_
          refine g_istoren K [(0, .ref am), (1, .int x1), (2, .int (j5.1 + j10.1)), (3, .int j5.2.1)] [1, 2, 0, 3] rfl (by decide) rfl 69 dX4_doesMelt_68 rfl ?_
          refine g_iinc K (j5.2.1 + (nI 1)) 3 [(0, .ref am), (1, .int x1), (2, .int (j5.1 + j10.1)), (3, .int (j5.2.1 + (nI 1)))] [1, 2, 3, 0] rfl (by rw [ic_1]) (by decide) rfl 72 dX4_doesMelt_69 rfl ?_
          refine g_goto K 4 dX4_doesMelt_72 (by decide) ?_
          exact h7 ((j5.1 + j10.1), (j5.2.1 + (nI 1)), r14)
        · refine g_if_ne K 27 31 dX4_doesMelt_24 rfl (by decide) (fun _ => ?_) (fun _ => ?_)
          · refine g_iconst K (nI 0) ic_0 28 dX4_doesMelt_27 rfl ?_
            refine g_goto K 47 dX4_doesMelt_28 (by decide) ?_
            exact h12 ((nI 0), j5.2.2)
          · refine g_aloadn K 0 rfl rfl 32 dX4_doesMelt_31 rfl ?_
            refine g_aloadn K 0 rfl rfl 33 dX4_doesMelt_32 rfl ?_
            refine g_iloadn K 1 rfl rfl 34 dX4_doesMelt_33 rfl ?_
            refine g_iloadn K 3 rfl rfl 35 dX4_doesMelt_34 rfl ?_
            refine gm_call K hK hcl 38 (ct_wallOf j5.2.2 x1 j5.2.1) (lw_V q1903 q1905 qs94 q158 q1906) wd_wallOf (by decide) rfl (Nat.le_of_ble_eq_true rfl) dX4_doesMelt_35 rfl (fun r15 _ => ?_)
            refine g_aloadn K 0 rfl rfl 39 dX4_doesMelt_38 rfl ?_
            refine g_iloadn K 1 rfl rfl 40 dX4_doesMelt_39 rfl ?_
            refine g_iloadn K 3 rfl rfl 41 dX4_doesMelt_40 rfl ?_
            refine gm_call K hK hcl 44 (ct_meltsOf j5.2.2 x1 j5.2.1) (lw_V q2021 q2023 qs122 q158 q2024) wd_meltsOf (by decide) rfl (Nat.le_of_ble_eq_true rfl) dX4_doesMelt_41 rfl (fun r16 _ => ?_)
            refine gm_call K hK hcl 47 (ct_lesser r16.2 r15 r16.1) (lw_V q2025 q2027 qs123 q158 q2028) wd_lesser (by decide) rfl (Nat.le_of_ble_eq_true rfl) dX4_doesMelt_44 rfl (fun r17 _ => ?_)
            exact h12 (r17, r16.2)
      · refine g_sub (ls' := [(0, .ref am), (1, .int x1), (2, .int j5.1)]) [0, 1, 2] rfl ?_
        exact h3 (j5.1, j5.2.2)
/-- onesOf(I)I -/
def m_onesOf (μ : Mem) (x1 : Int32) : Option (Int32) :=
  lp (fun again2 (j1 : Int32 × Int32) =>
  if j1.2 = 0 then
  some j1.1
  else
  nm (j1.2 &&& (j1.2 - (nI 1))) fun v4 =>
  again2 ((j1.1 + (nI 1)), v4)) fuel ((nI 0), x1)
theorem wd_onesOf : yX4_onesOf.cls = RX4 ∧ yX4_onesOf.cls ≠ "java/lang/invoke/MethodHandle" ∧ yX4_onesOf.cls ≠ "java/lang/invoke/VarHandle" ∧ (parseMethodDescriptor yX4_onesOf.desc).map (fun d => d.parameters.length) = some 1 := by decide +kernel
set_option maxRecDepth 100000 in
theorem ct_onesOf (μ : Mem) (x1 : Int32) : CtM yX4_onesOf cX4_onesOf 4 (some .int) 0 0 [.int x1] μ (fun r => (some (.int r), μ)) (m_onesOf μ x1) := by
  refine CtM.of (by decide) rfl (fun _ => Nat.le_of_ble_eq_true rfl) ?_
  intro l D cl ci cA am p e s m args below meth c hcl K hr hlk hK
  refine g_sub (ls' := [(0, .ref am), (1, .int x1)]) [0, 1] rfl ?_
  unfold m_onesOf
  refine g_iconst K (nI 0) ic_0 1 dX4_onesOf_0 rfl ?_
  refine g_istoren K [(0, .ref am), (1, .int x1), (2, .int (nI 0))] [1, 2, 0] rfl (by decide) rfl 2 dX4_onesOf_1 rfl ?_
  refine g_iloadn K 1 rfl rfl 3 dX4_onesOf_2 rfl ?_
  refine g_istoren K [(0, .ref am), (2, .int (nI 0)), (3, .int x1)] [1, 3, 0] rfl (by decide) rfl 4 dX4_onesOf_3 rfl ?_
  refine g_lp (head := 4) (L := fun j1 => [(0, .ref am), (2, .int j1.1), (3, .int j1.2)]) (sf := fun j1 => []) (mf := fun j1 => μ) (fun again2 h3 j1 => ?_) fuel ((nI 0), x1)
  try dsimp only
  refine g_iloadn K 2 rfl rfl 5 dX4_onesOf_4 rfl ?_
  refine g_if_eq K 8 21 dX4_onesOf_5 rfl (by decide) (fun _ => ?_) (fun _ => ?_)
  · refine g_iloadn K 1 rfl rfl 22 dX4_onesOf_21 rfl ?_
    exact gm_iret K hK hcl hr hlk dX4_onesOf_22 rfl
  · refine g_iloadn K 1 rfl rfl 9 dX4_onesOf_8 rfl ?_
    refine g_iconst K (nI 1) ic_1 10 dX4_onesOf_9 rfl ?_
    refine g_iadd K 11 dX4_onesOf_10 rfl ?_
    refine g_istoren K [(0, .ref am), (2, .int (j1.1 + (nI 1))), (3, .int j1.2)] [1, 0, 2] rfl (by decide) rfl 12 dX4_onesOf_11 rfl ?_
    refine g_iloadn K 2 rfl rfl 13 dX4_onesOf_12 rfl ?_
    refine g_iloadn K 2 rfl rfl 14 dX4_onesOf_13 rfl ?_
    refine g_iconst K (nI 1) ic_1 15 dX4_onesOf_14 rfl ?_
    refine g_isub K 16 dX4_onesOf_15 rfl ?_
    refine g_iand K 17 dX4_onesOf_16 rfl ?_
    refine g_nm (fun v4 _ => ?_)
    refine g_istoren K [(0, .ref am), (2, .int (j1.1 + (nI 1))), (3, .int v4)] [1, 2, 0] rfl (by decide) rfl 18 dX4_onesOf_17 rfl ?_
    refine g_goto K 4 dX4_onesOf_18 (by decide) ?_
    exact h3 ((j1.1 + (nI 1)), v4)
/-- goesBy()I -/
def m_goesBy (μ : Mem) : Option (Int32 × Mem) :=
  (m_skyOf μ).bind fun r1 =>
  jn (fun (j2 : Mem) =>
  (m_standingSet j2).bind fun r5 =>
  jn (fun (j6 : Mem) =>
  jn (fun (j9 : Mem) =>
  jn (fun (j12 : Mem) =>
  jn (fun (j15 : Mem) =>
  jn (fun (j18 : Mem) =>
  (rd j18 1 115 (nI 0)).bind fun v21 =>
  (wr j18 1 115 (nI 0) (v21 + (nI 1))).bind fun μ22 =>
  (m_standingSet μ22).bind fun r23 =>
  (m_onesOf μ22 (r5 &&& (r23 ^^^ (-1 : Int32)))).bind fun r24 =>
  some (r24, μ22)) (fun k19 =>
  lp (fun again26 (j25 : Int32 × Mem) =>
  if (j25.2 6 0) ≤ j25.1 then
  k19 j25.2
  else
  (m_areOut j25.2 j25.1).bind fun r28 =>
  (m_doesStand r28 j25.1).bind fun r29 =>
  if (bI r29) = 0 then
  again26 ((j25.1 + (nI 1)), r28)
  else
  (rd r28 1 115 ((nI 103) + j25.1)).bind fun v30 =>
  (m_lesser r28 (nI 9999) (v30 + (nI 1))).bind fun r31 =>
  (wr r28 1 115 ((nI 103) + j25.1) r31).bind fun μ32 =>
  again26 ((j25.1 + (nI 1)), μ32)) fuel ((nI 0), j15))) (fun k16 =>
  lp (fun again34 (j33 : Int32 × Mem) =>
  if (j33.2 6 0) ≤ j33.1 then
  k16 j33.2
  else
  (rd j33.2 1 115 (nI 4)).bind fun v36 =>
  if v36 = (nI 1) then
  (m_doesStand j33.2 j33.1).bind fun r37 =>
  if (bI r37) = 0 then
  again34 ((j33.1 + (nI 1)), j33.2)
  else
  (rd j33.2 1 115 ((nI 55) + j33.1)).bind fun v38 =>
  (m_lesser j33.2 (nI 9) (v38 + (nI 1))).bind fun r39 =>
  (wr j33.2 1 115 ((nI 55) + j33.1) r39).bind fun μ40 =>
  again34 ((j33.1 + (nI 1)), μ40)
  else
  again34 ((j33.1 + (nI 1)), j33.2)) fuel ((nI 0), j12))) (fun k13 =>
  lp (fun again42 (j41 : Int32 × Mem) =>
  if (j41.2 6 0) ≤ j41.1 then
  k13 j41.2
  else
  (m_doesMelt j41.2 j41.1).bind fun r44 =>
  again42 ((j41.1 + (nI 1)), r44)) fuel ((nI 0), j9))) (fun k10 =>
  lp (fun again46 (j45 : Int32 × Mem) =>
  if (j45.2 6 0) ≤ j45.1 then
  k10 j45.2
  else
  (m_isGnawed j45.2 j45.1).bind fun r48 =>
  again46 ((j45.1 + (nI 1)), r48)) fuel ((nI 0), j6))) (fun k7 =>
  lp (fun again50 (j49 : Int32 × Mem) =>
  if (j49.2 6 0) ≤ j49.1 then
  k7 j49.2
  else
  (m_doesStand j49.2 j49.1).bind fun r52 =>
  if (bI r52) = 0 then
  again50 ((j49.1 + (nI 1)), j49.2)
  else
  (rd j49.2 1 115 ((nI 79) + j49.1)).bind fun v53 =>
  if v53 ≤ 0 then
  again50 ((j49.1 + (nI 1)), j49.2)
  else
  (m_paysRent j49.2 j49.1).bind fun r54 =>
  again50 ((j49.1 + (nI 1)), r54)) fuel ((nI 0), j2))) (fun k3 =>
  lp (fun again56 (j55 : Int32 × Mem) =>
  if ((nI 5) * (j55.2 35 0)) ≤ j55.1 then
  k3 j55.2
  else
  (rd j55.2 36 160 j55.1).bind fun v58 =>
  (rd j55.2 1 115 (nI 0)).bind fun v59 =>
  jn (fun (j60 : Mem) =>
  again56 ((j55.1 + (nI 5)), j60)) (fun k61 =>
  if v58 = v59 then
  (m_does j55.2 j55.1).bind fun r63 =>
  k61 r63
  else
  k61 j55.2)) fuel ((nI 0), r1))
theorem wd_goesBy : yX4_goesBy.cls = RX4 ∧ yX4_goesBy.cls ≠ "java/lang/invoke/MethodHandle" ∧ yX4_goesBy.cls ≠ "java/lang/invoke/VarHandle" ∧ (parseMethodDescriptor yX4_goesBy.desc).map (fun d => d.parameters.length) = some 0 := by decide +kernel
set_option maxRecDepth 100000 in
theorem ct_goesBy (μ : Mem) : CtM yX4_goesBy cX4_goesBy 3 (some .int) 6 141 [] μ (fun r => (some (.int r.1), r.2)) (m_goesBy μ) := by
  refine CtM.of (by decide) rfl (fun _ => Nat.le_of_ble_eq_true rfl) ?_
  intro l D cl ci cA am p e s m args below meth c hcl K hr hlk hK
  refine g_sub (ls' := [(0, .ref am)]) [0] rfl ?_
  unfold m_goesBy
  refine g_aloadn K 0 rfl rfl 1 dX4_goesBy_0 rfl ?_
  refine gm_call K hK hcl 4 (ct_skyOf μ) (lw_V q1959 q1961 qs107 q158 q1962) wd_skyOf (by decide) rfl (Nat.le_of_ble_eq_true rfl) dX4_goesBy_1 rfl (fun r1 _ => ?_)
  refine g_iconst K (nI 0) ic_0 5 dX4_goesBy_4 rfl ?_
  refine g_istoren K [(0, .ref am), (1, .int (nI 0))] [1, 0] rfl (by decide) rfl 6 dX4_goesBy_5 rfl ?_
  refine g_jn (head := 43) (L := fun j2 => [(0, .ref am)]) (sf := fun j2 => []) (mf := fun j2 => j2) (fun j2 => ?_) (fun k3 h4 => ?_)
  · try dsimp only
    refine g_aloadn K 0 rfl rfl 44 dX4_goesBy_43 rfl ?_
    refine gm_call K hK hcl 47 (ct_standingSet j2) (lw_V q1971 q1973 qs110 q158 q1974) wd_standingSet (by decide) rfl (Nat.le_of_ble_eq_true rfl) dX4_goesBy_44 rfl (fun r5 _ => ?_)
    refine g_istoren K [(0, .ref am), (1, .int r5)] [1, 0] rfl (by decide) rfl 48 dX4_goesBy_47 rfl ?_
    refine g_iconst K (nI 0) ic_0 49 dX4_goesBy_48 rfl ?_
    refine g_istoren K [(0, .ref am), (1, .int r5), (2, .int (nI 0))] [1, 2, 0] rfl (by decide) rfl 50 dX4_goesBy_49 rfl ?_
    refine g_jn (head := 89) (L := fun j6 => [(0, .ref am), (1, .int r5)]) (sf := fun j6 => []) (mf := fun j6 => j6) (fun j6 => ?_) (fun k7 h8 => ?_)
    · try dsimp only
      refine g_iconst K (nI 0) ic_0 90 dX4_goesBy_89 rfl ?_
      refine g_istoren K [(0, .ref am), (1, .int r5), (2, .int (nI 0))] [1, 2, 0] rfl (by decide) rfl 91 dX4_goesBy_90 rfl ?_
      refine g_jn (head := 110) (L := fun j9 => [(0, .ref am), (1, .int r5)]) (sf := fun j9 => []) (mf := fun j9 => j9) (fun j9 => ?_) (fun k10 h11 => ?_)
      · try dsimp only
        refine g_iconst K (nI 0) ic_0 111 dX4_goesBy_110 rfl ?_
        refine g_istoren K [(0, .ref am), (1, .int r5), (2, .int (nI 0))] [1, 2, 0] rfl (by decide) rfl 112 dX4_goesBy_111 rfl ?_
        refine g_jn (head := 131) (L := fun j12 => [(0, .ref am), (1, .int r5)]) (sf := fun j12 => []) (mf := fun j12 => j12) (fun j12 => ?_) (fun k13 h14 => ?_)
        · try dsimp only
          refine g_iconst K (nI 0) ic_0 132 dX4_goesBy_131 rfl ?_
          refine g_istoren K [(0, .ref am), (1, .int r5), (2, .int (nI 0))] [1, 2, 0] rfl (by decide) rfl 133 dX4_goesBy_132 rfl ?_
          refine g_jn (head := 191) (L := fun j15 => [(0, .ref am), (1, .int r5)]) (sf := fun j15 => []) (mf := fun j15 => j15) (fun j15 => ?_) (fun k16 h17 => ?_)
          · try dsimp only
            refine g_iconst K (nI 0) ic_0 192 dX4_goesBy_191 rfl ?_
            refine g_istoren K [(0, .ref am), (1, .int r5), (2, .int (nI 0))] [1, 2, 0] rfl (by decide) rfl 193 dX4_goesBy_192 rfl ?_
            refine g_jn (head := 247) (L := fun j18 => [(0, .ref am), (1, .int r5)]) (sf := fun j18 => []) (mf := fun j18 => j18) (fun j18 => ?_) (fun k19 h20 => ?_)
            · try dsimp only
              refine g_aloadn K 0 rfl rfl 248 dX4_goesBy_247 rfl ?_
              refine gm_get K hK hcl 1 251 (by decide) q1486 rfl dX4_goesBy_248 rfl ?_
              refine g_iconst K (nI 0) ic_0 252 dX4_goesBy_251 rfl ?_
              refine g_aloadn K 0 rfl rfl 253 dX4_goesBy_252 rfl ?_
              refine gm_get K hK hcl 1 256 (by decide) q1486 rfl dX4_goesBy_253 rfl ?_
              refine g_iconst K (nI 0) ic_0 257 dX4_goesBy_256 rfl ?_
              refine gm_ald K hK hcl 1 1 115 258 rfl dX4_goesBy_257 rfl (fun v21 _ => ?_)
              refine g_iconst K (nI 1) ic_1 259 dX4_goesBy_258 rfl ?_
              refine g_iadd K 260 dX4_goesBy_259 rfl ?_
              refine gm_ast K hK hcl 1 1 115 261 rfl (fun _ => rfl) dX4_goesBy_260 rfl (fun μ22 _ => ?_)
              refine g_aloadn K 0 rfl rfl 262 dX4_goesBy_261 rfl ?_
              refine g_iloadn K 1 rfl rfl 263 dX4_goesBy_262 rfl ?_
              refine g_aloadn K 0 rfl rfl 264 dX4_goesBy_263 rfl ?_
              refine gm_call K hK hcl 267 (ct_standingSet μ22) (lw_V q1971 q1973 qs110 q158 q1974) wd_standingSet (by decide) rfl (Nat.le_of_ble_eq_true rfl) dX4_goesBy_264 rfl (fun r23 _ => ?_)
              refine g_iconst K (-1 : Int32) ic_m1 268 dX4_goesBy_267 rfl ?_
              refine g_ixor K 269 dX4_goesBy_268 rfl ?_
              refine g_iand K 270 dX4_goesBy_269 rfl ?_
              refine gm_call K hK hcl 273 (ct_onesOf μ22 (r5 &&& (r23 ^^^ (-1 : Int32)))) (lw_V q2029 q2031 qs124 q158 q2032) wd_onesOf (by decide) rfl (Nat.le_of_ble_eq_true rfl) dX4_goesBy_270 rfl (fun r24 _ => ?_)
              exact gm_iret K hK hcl hr hlk dX4_goesBy_273 rfl
            · refine g_lp (head := 193) (L := fun j25 => [(0, .ref am), (1, .int r5), (2, .int j25.1)]) (sf := fun j25 => []) (mf := fun j25 => j25.2) (fun again26 h27 j25 => ?_) fuel ((nI 0), j15)
              try dsimp only
              refine g_iloadn K 2 rfl rfl 194 dX4_goesBy_193 rfl ?_
              refine g_aloadn K 0 rfl rfl 195 dX4_goesBy_194 rfl ?_
              refine gm_get K hK hcl 6 198 (by decide) q1491 rfl dX4_goesBy_195 rfl ?_
              refine g_icmp_ge K 201 247 dX4_goesBy_198 rfl (by decide) (fun _ => ?_) (fun _ => ?_)
              · refine g_sub (ls' := [(0, .ref am), (1, .int r5)]) [0, 1] rfl ?_
                exact h20 j25.2
              · refine g_aloadn K 0 rfl rfl 202 dX4_goesBy_201 rfl ?_
                refine g_iloadn K 2 rfl rfl 203 dX4_goesBy_202 rfl ?_
                refine gm_call K hK hcl 206 (ct_areOut j25.2 j25.1) (lw_V q1927 q1929 qs100 q158 q1930) wd_areOut (by decide) rfl (Nat.le_of_ble_eq_true rfl) dX4_goesBy_203 rfl (fun r28 _ => ?_)
                refine g_aloadn K 0 rfl rfl 207 dX4_goesBy_206 rfl ?_
                refine g_iloadn K 2 rfl rfl 208 dX4_goesBy_207 rfl ?_
                refine gm_call K hK hcl 211 (ct_doesStand r28 j25.1) (lw_V q1911 q1913 qs96 q158 q1914) wd_doesStand (by decide) rfl (Nat.le_of_ble_eq_true rfl) dX4_goesBy_208 rfl (fun r29 _ => ?_)
                refine g_if_eq K 214 241 dX4_goesBy_211 rfl (by decide) (fun _ => ?_) (fun _ => ?_)
                · refine g_iinc K (j25.1 + (nI 1)) 2 [(0, .ref am), (1, .int r5), (2, .int (j25.1 + (nI 1)))] [1, 2, 0] rfl (by rw [ic_1]) (by decide) rfl 244 dX4_goesBy_241 rfl ?_
                  refine g_goto K 193 dX4_goesBy_244 (by decide) ?_
                  exact h27 ((j25.1 + (nI 1)), r28)
                · refine g_aloadn K 0 rfl rfl 215 dX4_goesBy_214 rfl ?_
                  refine gm_get K hK hcl 1 218 (by decide) q1486 rfl dX4_goesBy_215 rfl ?_
                  refine g_bipush K (nI 103) bp_103 220 dX4_goesBy_218 rfl ?_
                  refine g_iloadn K 2 rfl rfl 221 dX4_goesBy_220 rfl ?_
                  refine g_iadd K 222 dX4_goesBy_221 rfl ?_
                  refine g_aloadn K 0 rfl rfl 223 dX4_goesBy_222 rfl ?_
                  refine g_sipush K (nI 9999) sp_9999 226 dX4_goesBy_223 rfl ?_
                  refine g_aloadn K 0 rfl rfl 227 dX4_goesBy_226 rfl ?_
                  refine gm_get K hK hcl 1 230 (by decide) q1486 rfl dX4_goesBy_227 rfl ?_
                  refine g_bipush K (nI 103) bp_103 232 dX4_goesBy_230 rfl ?_
                  refine g_iloadn K 2 rfl rfl 233 dX4_goesBy_232 rfl ?_
                  refine g_iadd K 234 dX4_goesBy_233 rfl ?_
                  refine gm_ald K hK hcl 1 1 115 235 rfl dX4_goesBy_234 rfl (fun v30 _ => ?_)
                  refine g_iconst K (nI 1) ic_1 236 dX4_goesBy_235 rfl ?_
                  refine g_iadd K 237 dX4_goesBy_236 rfl ?_
                  refine gm_call K hK hcl 240 (ct_lesser r28 (nI 9999) (v30 + (nI 1))) (lw_V q2025 q2027 qs123 q158 q2028) wd_lesser (by decide) rfl (Nat.le_of_ble_eq_true rfl) dX4_goesBy_237 rfl (fun r31 _ => ?_)
                  refine gm_ast K hK hcl 1 1 115 241 rfl (fun _ => rfl) dX4_goesBy_240 rfl (fun μ32 _ => ?_)
                  refine g_iinc K (j25.1 + (nI 1)) 2 [(0, .ref am), (1, .int r5), (2, .int (j25.1 + (nI 1)))] [1, 2, 0] rfl (by rw [ic_1]) (by decide) rfl 244 dX4_goesBy_241 rfl ?_
                  refine g_goto K 193 dX4_goesBy_244 (by decide) ?_
                  exact h27 ((j25.1 + (nI 1)), μ32)
          · refine g_lp (head := 133) (L := fun j33 => [(0, .ref am), (1, .int r5), (2, .int j33.1)]) (sf := fun j33 => []) (mf := fun j33 => j33.2) (fun again34 h35 j33 => ?_) fuel ((nI 0), j12)
            try dsimp only
            refine g_iloadn K 2 rfl rfl 134 dX4_goesBy_133 rfl ?_
            refine g_aloadn K 0 rfl rfl 135 dX4_goesBy_134 rfl ?_
            refine gm_get K hK hcl 6 138 (by decide) q1491 rfl dX4_goesBy_135 rfl ?_
            refine g_icmp_ge K 141 191 dX4_goesBy_138 rfl (by decide) (fun _ => ?_) (fun _ => ?_)
            · refine g_sub (ls' := [(0, .ref am), (1, .int r5)]) [0, 1] rfl ?_
              exact h17 j33.2
            · refine g_aloadn K 0 rfl rfl 142 dX4_goesBy_141 rfl ?_
              refine gm_get K hK hcl 1 145 (by decide) q1486 rfl dX4_goesBy_142 rfl ?_
              refine g_iconst K (nI 4) ic_4 146 dX4_goesBy_145 rfl ?_
              refine gm_ald K hK hcl 1 1 115 147 rfl dX4_goesBy_146 rfl (fun v36 _ => ?_)
              refine g_iconst K (nI 1) ic_1 148 dX4_goesBy_147 rfl ?_
              refine g_icmp_ne K 151 185 dX4_goesBy_148 rfl (by decide) (fun _ => ?_) (fun _ => ?_)
              · refine g_aloadn K 0 rfl rfl 152 dX4_goesBy_151 rfl ?_
                refine g_iloadn K 2 rfl rfl 153 dX4_goesBy_152 rfl ?_
                refine gm_call K hK hcl 156 (ct_doesStand j33.2 j33.1) (lw_V q1911 q1913 qs96 q158 q1914) wd_doesStand (by decide) rfl (Nat.le_of_ble_eq_true rfl) dX4_goesBy_153 rfl (fun r37 _ => ?_)
                refine g_if_eq K 159 185 dX4_goesBy_156 rfl (by decide) (fun _ => ?_) (fun _ => ?_)
                · refine g_iinc K (j33.1 + (nI 1)) 2 [(0, .ref am), (1, .int r5), (2, .int (j33.1 + (nI 1)))] [1, 2, 0] rfl (by rw [ic_1]) (by decide) rfl 188 dX4_goesBy_185 rfl ?_
                  refine g_goto K 133 dX4_goesBy_188 (by decide) ?_
                  exact h35 ((j33.1 + (nI 1)), j33.2)
                · refine g_aloadn K 0 rfl rfl 160 dX4_goesBy_159 rfl ?_
                  refine gm_get K hK hcl 1 163 (by decide) q1486 rfl dX4_goesBy_160 rfl ?_
                  refine g_bipush K (nI 55) bp_55 165 dX4_goesBy_163 rfl ?_
                  refine g_iloadn K 2 rfl rfl 166 dX4_goesBy_165 rfl ?_
                  refine g_iadd K 167 dX4_goesBy_166 rfl ?_
                  refine g_aloadn K 0 rfl rfl 168 dX4_goesBy_167 rfl ?_
                  refine g_bipush K (nI 9) bp_9 170 dX4_goesBy_168 rfl ?_
                  refine g_aloadn K 0 rfl rfl 171 dX4_goesBy_170 rfl ?_
                  refine gm_get K hK hcl 1 174 (by decide) q1486 rfl dX4_goesBy_171 rfl ?_
                  refine g_bipush K (nI 55) bp_55 176 dX4_goesBy_174 rfl ?_
                  refine g_iloadn K 2 rfl rfl 177 dX4_goesBy_176 rfl ?_
                  refine g_iadd K 178 dX4_goesBy_177 rfl ?_
                  refine gm_ald K hK hcl 1 1 115 179 rfl dX4_goesBy_178 rfl (fun v38 _ => ?_)
                  refine g_iconst K (nI 1) ic_1 180 dX4_goesBy_179 rfl ?_
                  refine g_iadd K 181 dX4_goesBy_180 rfl ?_
                  refine gm_call K hK hcl 184 (ct_lesser j33.2 (nI 9) (v38 + (nI 1))) (lw_V q2025 q2027 qs123 q158 q2028) wd_lesser (by decide) rfl (Nat.le_of_ble_eq_true rfl) dX4_goesBy_181 rfl (fun r39 _ => ?_)
                  refine gm_ast K hK hcl 1 1 115 185 rfl (fun _ => rfl) dX4_goesBy_184 rfl (fun μ40 _ => ?_)
                  refine g_iinc K (j33.1 + (nI 1)) 2 [(0, .ref am), (1, .int r5), (2, .int (j33.1 + (nI 1)))] [1, 2, 0] rfl (by rw [ic_1]) (by decide) rfl 188 dX4_goesBy_185 rfl ?_
                  refine g_goto K 133 dX4_goesBy_188 (by decide) ?_
                  exact h35 ((j33.1 + (nI 1)), μ40)
              · refine g_iinc K (j33.1 + (nI 1)) 2 [(0, .ref am), (1, .int r5), (2, .int (j33.1 + (nI 1)))] [1, 2, 0] rfl (by rw [ic_1]) (by decide) rfl 188 dX4_goesBy_185 rfl ?_
                refine g_goto K 133 dX4_goesBy_188 (by decide) ?_
                exact h35 ((j33.1 + (nI 1)), j33.2)
        · refine g_lp (head := 112) (L := fun j41 => [(0, .ref am), (1, .int r5), (2, .int j41.1)]) (sf := fun j41 => []) (mf := fun j41 => j41.2) (fun again42 h43 j41 => ?_) fuel ((nI 0), j9)
          try dsimp only
          refine g_iloadn K 2 rfl rfl 113 dX4_goesBy_112 rfl ?_
          refine g_aloadn K 0 rfl rfl 114 dX4_goesBy_113 rfl ?_
          refine gm_get K hK hcl 6 117 (by decide) q1491 rfl dX4_goesBy_114 rfl ?_
          refine g_icmp_ge K 120 131 dX4_goesBy_117 rfl (by decide) (fun _ => ?_) (fun _ => ?_)
          · refine g_sub (ls' := [(0, .ref am), (1, .int r5)]) [0, 1] rfl ?_
            exact h14 j41.2
          · refine g_aloadn K 0 rfl rfl 121 dX4_goesBy_120 rfl ?_
            refine g_iloadn K 2 rfl rfl 122 dX4_goesBy_121 rfl ?_
            refine gm_call K hK hcl 125 (ct_doesMelt j41.2 j41.1) (lw_V q2017 q2019 qs121 q158 q2020) wd_doesMelt (by decide) rfl (Nat.le_of_ble_eq_true rfl) dX4_goesBy_122 rfl (fun r44 _ => ?_)
            refine g_iinc K (j41.1 + (nI 1)) 2 [(0, .ref am), (1, .int r5), (2, .int (j41.1 + (nI 1)))] [1, 2, 0] rfl (by rw [ic_1]) (by decide) rfl 128 dX4_goesBy_125 rfl ?_
            refine g_goto K 112 dX4_goesBy_128 (by decide) ?_
            exact h43 ((j41.1 + (nI 1)), r44)
      · refine g_lp (head := 91) (L := fun j45 => [(0, .ref am), (1, .int r5), (2, .int j45.1)]) (sf := fun j45 => []) (mf := fun j45 => j45.2) (fun again46 h47 j45 => ?_) fuel ((nI 0), j6)
        try dsimp only
        refine g_iloadn K 2 rfl rfl 92 dX4_goesBy_91 rfl ?_
        refine g_aloadn K 0 rfl rfl 93 dX4_goesBy_92 rfl ?_
        refine gm_get K hK hcl 6 96 (by decide) q1491 rfl dX4_goesBy_93 rfl ?_
        refine g_icmp_ge K 99 110 dX4_goesBy_96 rfl (by decide) (fun _ => ?_) (fun _ => ?_)
        · refine g_sub (ls' := [(0, .ref am), (1, .int r5)]) [0, 1] rfl ?_
          exact h11 j45.2
        · refine g_aloadn K 0 rfl rfl 100 dX4_goesBy_99 rfl ?_
          refine g_iloadn K 2 rfl rfl 101 dX4_goesBy_100 rfl ?_
          refine gm_call K hK hcl 104 (ct_isGnawed j45.2 j45.1) (lw_V q2003 q2005 qs118 q158 q2006) wd_isGnawed (by decide) rfl (Nat.le_of_ble_eq_true rfl) dX4_goesBy_101 rfl (fun r48 _ => ?_)
          refine g_iinc K (j45.1 + (nI 1)) 2 [(0, .ref am), (1, .int r5), (2, .int (j45.1 + (nI 1)))] [1, 2, 0] rfl (by rw [ic_1]) (by decide) rfl 107 dX4_goesBy_104 rfl ?_
          refine g_goto K 91 dX4_goesBy_107 (by decide) ?_
          exact h47 ((j45.1 + (nI 1)), r48)
    · refine g_lp (head := 50) (L := fun j49 => [(0, .ref am), (1, .int r5), (2, .int j49.1)]) (sf := fun j49 => []) (mf := fun j49 => j49.2) (fun again50 h51 j49 => ?_) fuel ((nI 0), j2)
      try dsimp only
      refine g_iloadn K 2 rfl rfl 51 dX4_goesBy_50 rfl ?_
      refine g_aloadn K 0 rfl rfl 52 dX4_goesBy_51 rfl ?_
      refine gm_get K hK hcl 6 55 (by decide) q1491 rfl dX4_goesBy_52 rfl ?_
      refine g_icmp_ge K 58 89 dX4_goesBy_55 rfl (by decide) (fun _ => ?_) (fun _ => ?_)
      · refine g_sub (ls' := [(0, .ref am), (1, .int r5)]) [0, 1] rfl ?_
        exact h8 j49.2
      · refine g_aloadn K 0 rfl rfl 59 dX4_goesBy_58 rfl ?_
        refine g_iloadn K 2 rfl rfl 60 dX4_goesBy_59 rfl ?_
        refine gm_call K hK hcl 63 (ct_doesStand j49.2 j49.1) (lw_V q1911 q1913 qs96 q158 q1914) wd_doesStand (by decide) rfl (Nat.le_of_ble_eq_true rfl) dX4_goesBy_60 rfl (fun r52 _ => ?_)
        refine g_if_eq K 66 83 dX4_goesBy_63 rfl (by decide) (fun _ => ?_) (fun _ => ?_)
        · refine g_iinc K (j49.1 + (nI 1)) 2 [(0, .ref am), (1, .int r5), (2, .int (j49.1 + (nI 1)))] [1, 2, 0] rfl (by rw [ic_1]) (by decide) rfl 86 dX4_goesBy_83 rfl ?_
          refine g_goto K 50 dX4_goesBy_86 (by decide) ?_
          exact h51 ((j49.1 + (nI 1)), j49.2)
        · refine g_aloadn K 0 rfl rfl 67 dX4_goesBy_66 rfl ?_
          refine gm_get K hK hcl 1 70 (by decide) q1486 rfl dX4_goesBy_67 rfl ?_
          refine g_bipush K (nI 79) bp_79 72 dX4_goesBy_70 rfl ?_
          refine g_iloadn K 2 rfl rfl 73 dX4_goesBy_72 rfl ?_
          refine g_iadd K 74 dX4_goesBy_73 rfl ?_
          refine gm_ald K hK hcl 1 1 115 75 rfl dX4_goesBy_74 rfl (fun v53 _ => ?_)
          refine g_if_le K 78 83 dX4_goesBy_75 rfl (by decide) (fun _ => ?_) (fun _ => ?_)
          · refine g_iinc K (j49.1 + (nI 1)) 2 [(0, .ref am), (1, .int r5), (2, .int (j49.1 + (nI 1)))] [1, 2, 0] rfl (by rw [ic_1]) (by decide) rfl 86 dX4_goesBy_83 rfl ?_
            refine g_goto K 50 dX4_goesBy_86 (by decide) ?_
            exact h51 ((j49.1 + (nI 1)), j49.2)
          · refine g_aloadn K 0 rfl rfl 79 dX4_goesBy_78 rfl ?_
            refine g_iloadn K 2 rfl rfl 80 dX4_goesBy_79 rfl ?_
            refine gm_call K hK hcl 83 (ct_paysRent j49.2 j49.1) (lw_V q1975 q1977 qs111 q158 q1978) wd_paysRent (by decide) rfl (Nat.le_of_ble_eq_true rfl) dX4_goesBy_80 rfl (fun r54 _ => ?_)
            refine g_iinc K (j49.1 + (nI 1)) 2 [(0, .ref am), (1, .int r5), (2, .int (j49.1 + (nI 1)))] [1, 2, 0] rfl (by rw [ic_1]) (by decide) rfl 86 dX4_goesBy_83 rfl ?_
            refine g_goto K 50 dX4_goesBy_86 (by decide) ?_
            exact h51 ((j49.1 + (nI 1)), r54)
  · refine g_lp (head := 6) (L := fun j55 => [(0, .ref am), (1, .int j55.1)]) (sf := fun j55 => []) (mf := fun j55 => j55.2) (fun again56 h57 j55 => ?_) fuel ((nI 0), r1)
    try dsimp only
    refine g_iloadn K 1 rfl rfl 7 dX4_goesBy_6 rfl ?_
    refine g_iconst K (nI 5) ic_5 8 dX4_goesBy_7 rfl ?_
    refine g_aloadn K 0 rfl rfl 9 dX4_goesBy_8 rfl ?_
    refine gm_get K hK hcl 35 12 (by decide) q1520 rfl dX4_goesBy_9 rfl ?_
    refine g_imul K 13 dX4_goesBy_12 rfl ?_
    refine g_icmp_ge K 16 43 dX4_goesBy_13 rfl (by decide) (fun _ => ?_) (fun _ => ?_)
    · refine g_sub (ls' := [(0, .ref am)]) [0] rfl ?_
      exact h4 j55.2
    · refine g_aloadn K 0 rfl rfl 17 dX4_goesBy_16 rfl ?_
      refine gm_get K hK hcl 36 20 (by decide) q1521 rfl dX4_goesBy_17 rfl ?_
      refine g_iloadn K 1 rfl rfl 21 dX4_goesBy_20 rfl ?_
      refine gm_ald K hK hcl 36 18 160 22 rfl dX4_goesBy_21 rfl (fun v58 _ => ?_)
      refine g_aloadn K 0 rfl rfl 23 dX4_goesBy_22 rfl ?_
      refine gm_get K hK hcl 1 26 (by decide) q1486 rfl dX4_goesBy_23 rfl ?_
      refine g_iconst K (nI 0) ic_0 27 dX4_goesBy_26 rfl ?_
      refine gm_ald K hK hcl 1 1 115 28 rfl dX4_goesBy_27 rfl (fun v59 _ => ?_)
      refine g_jn (head := 36) (L := fun j60 => [(0, .ref am), (1, .int j55.1)]) (sf := fun j60 => []) (mf := fun j60 => j60) (fun j60 => ?_) (fun k61 h62 => ?_)
      · try dsimp only
        refine g_iloadn K 1 rfl rfl 37 dX4_goesBy_36 rfl ?_
        refine g_iconst K (nI 5) ic_5 38 dX4_goesBy_37 rfl ?_
        refine g_iadd K 39 dX4_goesBy_38 rfl ?_
        refine g_istoren K [(0, .ref am), (1, .int (j55.1 + (nI 5)))] [1, 0] rfl (by decide) rfl 40 dX4_goesBy_39 rfl ?_
        refine g_goto K 6 dX4_goesBy_40 (by decide) ?_
        exact h57 ((j55.1 + (nI 5)), j60)
      · refine g_icmp_ne K 31 36 dX4_goesBy_28 rfl (by decide) (fun _ => ?_) (fun _ => ?_)
        · refine g_aloadn K 0 rfl rfl 32 dX4_goesBy_31 rfl ?_
          refine g_iloadn K 1 rfl rfl 33 dX4_goesBy_32 rfl ?_
          refine gm_call K hK hcl 36 (ct_does j55.2 j55.1) (lw_V q1963 q1965 qs108 q158 q1966) wd_does (by decide) rfl (Nat.le_of_ble_eq_true rfl) dX4_goesBy_33 rfl (fun r63 _ => ?_)
          exact h62 r63
        · exact h62 j55.2
/-- quarters(I)I -/
def m_quarters (μ : Mem) (x1 : Int32) : Option (Int32 × Mem) :=
  nm (up2 μ 0 0 (nI 0)) fun μ1 =>
  (m_isIn μ1 x1 (nI 1) (nI 60)).bind fun r2 =>
  if (bI r2) = 0 then
  some ((-1 : Int32), μ1)
  else
  (rd μ1 1 115 (nI 0)).bind fun v3 =>
  if (v3 + x1) ≤ (nI 9999) then
  lp (fun again5 (j4 : Int32 × Int32 × Mem) =>
  if x1 ≤ j4.2.1 then
  some (j4.1, j4.2.2)
  else
  (m_keepsAhead j4.2.2).bind fun r7 =>
  (m_goesBy r7).bind fun r8 =>
  again5 ((j4.1 + r8.1), (j4.2.1 + (nI 1)), r8.2)) fuel ((nI 0), (nI 0), μ1)
  else
  some ((-1 : Int32), μ1)
theorem wd_quarters : yX4_quarters.cls = RX4 ∧ yX4_quarters.cls ≠ "java/lang/invoke/MethodHandle" ∧ yX4_quarters.cls ≠ "java/lang/invoke/VarHandle" ∧ (parseMethodDescriptor yX4_quarters.desc).map (fun d => d.parameters.length) = some 1 := by decide +kernel
set_option maxRecDepth 100000 in
theorem ct_quarters (μ : Mem) (x1 : Int32) : CtM yX4_quarters cX4_quarters 4 (some .int) 7 163 [.int x1] μ (fun r => (some (.int r.1), r.2)) (m_quarters μ x1) := by
  refine CtM.of (by decide) rfl (fun _ => Nat.le_of_ble_eq_true rfl) ?_
  intro l D cl ci cA am p e s m args below meth c hcl K hr hlk hK
  refine g_sub (ls' := [(0, .ref am), (1, .int x1)]) [0, 1] rfl ?_
  unfold m_quarters
  refine g_aloadn K 0 rfl rfl 1 dX4_quarters_0 rfl ?_
  refine g_iconst K (nI 0) ic_0 2 dX4_quarters_1 rfl ?_
  refine gm_put K hK hcl 0 (ty := .int) 5 (by decide) q1485 rfl (by decide +kernel) rfl rfl rfl dX4_quarters_2 rfl (fun μ1 _ => ?_)
  refine g_aloadn K 0 rfl rfl 6 dX4_quarters_5 rfl ?_
  refine g_iloadn K 1 rfl rfl 7 dX4_quarters_6 rfl ?_
  refine g_iconst K (nI 1) ic_1 8 dX4_quarters_7 rfl ?_
  refine g_bipush K (nI 60) bp_60 10 dX4_quarters_8 rfl ?_
  refine gm_call K hK hcl 13 (ct_isIn μ1 x1 (nI 1) (nI 60)) (lw_V q1723 q1725 qs55 q158 q1726) wd_isIn (by decide) rfl (Nat.le_of_ble_eq_true rfl) dX4_quarters_10 rfl (fun r2 _ => ?_)
  refine g_if_eq K 16 30 dX4_quarters_13 rfl (by decide) (fun _ => ?_) (fun _ => ?_)
  · refine g_iconst K (-1 : Int32) ic_m1 31 dX4_quarters_30 rfl ?_
    exact gm_iret K hK hcl hr hlk dX4_quarters_31 rfl
  · refine g_aloadn K 0 rfl rfl 17 dX4_quarters_16 rfl ?_
    refine gm_get K hK hcl 1 20 (by decide) q1486 rfl dX4_quarters_17 rfl ?_
    refine g_iconst K (nI 0) ic_0 21 dX4_quarters_20 rfl ?_
    refine gm_ald K hK hcl 1 1 115 22 rfl dX4_quarters_21 rfl (fun v3 _ => ?_)
    refine g_iloadn K 1 rfl rfl 23 dX4_quarters_22 rfl ?_
    refine g_iadd K 24 dX4_quarters_23 rfl ?_
    refine g_sipush K (nI 9999) sp_9999 27 dX4_quarters_24 rfl ?_
    refine g_icmp_le K 30 32 dX4_quarters_27 rfl (by decide) (fun _ => ?_) (fun _ => ?_)
    · refine g_iconst K (nI 0) ic_0 33 dX4_quarters_32 rfl ?_
      refine g_istoren K [(0, .ref am), (1, .int x1), (2, .int (nI 0))] [1, 2, 0] rfl (by decide) rfl 34 dX4_quarters_33 rfl ?_
      refine g_iconst K (nI 0) ic_0 35 dX4_quarters_34 rfl ?_
      refine g_istoren K [(0, .ref am), (1, .int x1), (2, .int (nI 0)), (3, .int (nI 0))] [1, 2, 3, 0] rfl (by decide) rfl 36 dX4_quarters_35 rfl ?_
      refine g_lp (head := 36) (L := fun j4 => [(0, .ref am), (1, .int x1), (2, .int j4.1), (3, .int j4.2.1)]) (sf := fun j4 => []) (mf := fun j4 => j4.2.2) (fun again5 h6 j4 => ?_) fuel ((nI 0), (nI 0), μ1)
      try dsimp only
      refine g_iloadn K 3 rfl rfl 37 dX4_quarters_36 rfl ?_
      refine g_iloadn K 1 rfl rfl 38 dX4_quarters_37 rfl ?_
      refine g_icmp_ge K 41 58 dX4_quarters_38 rfl (by decide) (fun _ => ?_) (fun _ => ?_)
      · refine g_iloadn K 2 rfl rfl 59 dX4_quarters_58 rfl ?_
        exact gm_iret K hK hcl hr hlk dX4_quarters_59 rfl
      · refine g_aloadn K 0 rfl rfl 42 dX4_quarters_41 rfl ?_
        refine gm_call K hK hcl 45 (ct_keepsAhead j4.2.2) (lw_V q1919 q1921 qs98 q158 q1922) wd_keepsAhead (by decide) rfl (Nat.le_of_ble_eq_true rfl) dX4_quarters_42 rfl (fun r7 _ => ?_)
        refine g_iloadn K 2 rfl rfl 46 dX4_quarters_45 rfl ?_
        refine g_aloadn K 0 rfl rfl 47 dX4_quarters_46 rfl ?_
        refine gm_call K hK hcl 50 (ct_goesBy r7) (lw_V q1955 q1957 qs106 q158 q1958) wd_goesBy (by decide) rfl (Nat.le_of_ble_eq_true rfl) dX4_quarters_47 rfl (fun r8 _ => ?_)
        refine g_iadd K 51 dX4_quarters_50 rfl ?_
        refine g_istoren K [(0, .ref am), (1, .int x1), (2, .int (j4.1 + r8.1)), (3, .int j4.2.1)] [1, 2, 0, 3] rfl (by decide) rfl 52 dX4_quarters_51 rfl ?_
        refine g_iinc K (j4.2.1 + (nI 1)) 3 [(0, .ref am), (1, .int x1), (2, .int (j4.1 + r8.1)), (3, .int (j4.2.1 + (nI 1)))] [1, 2, 3, 0] rfl (by rw [ic_1]) (by decide) rfl 55 dX4_quarters_52 rfl ?_
        refine g_goto K 36 dX4_quarters_55 (by decide) ?_
        exact h6 ((j4.1 + r8.1), (j4.2.1 + (nI 1)), r8.2)
    · refine g_iconst K (-1 : Int32) ic_m1 31 dX4_quarters_30 rfl ?_
      exact gm_iret K hK hcl hr hlk dX4_quarters_31 rfl
/-- of(II)I -/
def m_of (μ : Mem) (x1 : Int32) (x2 : Int32) : Option (Int32 × Mem) :=
  nm (up2 μ 0 0 (nI 0)) fun μ1 =>
  (m_isHouse μ1 x1).bind fun r2 =>
  if (bI r2) = 0 then
  some ((-1 : Int32), μ1)
  else
  (m_isIn μ1 x2 (nI 0) (nI 3)).bind fun r3 =>
  if (bI r3) = 0 then
  (m_isIn μ1 x2 (nI 20) (nI 23)).bind fun r4 =>
  if (bI r4) = 0 then
  (m_isIn μ1 x2 (nI 30) (nI 33)).bind fun r5 =>
  if (bI r5) = 0 then
  if x2 = (nI 4) then
  (rd μ1 7 12 x1).bind fun v14 =>
  some (v14, μ1)
  else
  if x2 = (nI 5) then
  (rd μ1 8 12 x1).bind fun v13 =>
  some (v13, μ1)
  else
  if x2 = (nI 6) then
  (rd μ1 1 115 ((nI 55) + x1)).bind fun v12 =>
  some (v12, μ1)
  else
  if x2 = (nI 7) then
  (rd μ1 1 115 ((nI 79) + x1)).bind fun v11 =>
  some (v11, μ1)
  else
  if x2 = (nI 8) then
  (rd μ1 1 115 ((nI 67) + x1)).bind fun v10 =>
  some (v10, μ1)
  else
  if x2 = (nI 9) then
  (rd μ1 1 115 ((nI 91) + x1)).bind fun v9 =>
  some (v9, μ1)
  else
  if x2 = (nI 10) then
  (rd μ1 1 115 ((nI 103) + x1)).bind fun v8 =>
  some (v8, μ1)
  else
  if x2 = (nI 11) then
  (m_rentOf μ1 x1).bind fun r7 =>
  some (r7.1, r7.2)
  else
  if x2 = (nI 12) then
  (rd μ1 38 24 x1).bind fun v6 =>
  some (v6, μ1)
  else
  some ((-1 : Int32), μ1)
  else
  (m_meltsOf μ1 x1 (x2 - (nI 30))).bind fun r15 =>
  some (r15.1, r15.2)
  else
  (m_gnawsOf μ1 x1 (x2 - (nI 20))).bind fun r16 =>
  some (r16.1, r16.2)
  else
  (m_wallOf μ1 x1 x2).bind fun r17 =>
  some (r17, μ1)
theorem wd_of : yX4_of.cls = RX4 ∧ yX4_of.cls ≠ "java/lang/invoke/MethodHandle" ∧ yX4_of.cls ≠ "java/lang/invoke/VarHandle" ∧ (parseMethodDescriptor yX4_of.desc).map (fun d => d.parameters.length) = some 2 := by decide +kernel
set_option maxRecDepth 100000 in
theorem ct_of (μ : Mem) (x1 : Int32) (x2 : Int32) : CtM yX4_of cX4_of 3 (some .int) 5 116 [.int x1, .int x2] μ (fun r => (some (.int r.1), r.2)) (m_of μ x1 x2) := by
  refine CtM.of (by decide) rfl (fun _ => Nat.le_of_ble_eq_true rfl) ?_
  intro l D cl ci cA am p e s m args below meth c hcl K hr hlk hK
  refine g_sub (ls' := [(0, .ref am), (1, .int x1), (2, .int x2)]) [0, 1, 2] rfl ?_
  unfold m_of
  refine g_aloadn K 0 rfl rfl 1 dX4_of_0 rfl ?_
  refine g_iconst K (nI 0) ic_0 2 dX4_of_1 rfl ?_
  refine gm_put K hK hcl 0 (ty := .int) 5 (by decide) q1485 rfl (by decide +kernel) rfl rfl rfl dX4_of_2 rfl (fun μ1 _ => ?_)
  refine g_aloadn K 0 rfl rfl 6 dX4_of_5 rfl ?_
  refine g_iloadn K 1 rfl rfl 7 dX4_of_6 rfl ?_
  refine gm_call K hK hcl 10 (ct_isHouse μ1 x1) (lw_V q1735 q1737 qs57 q158 q1738) wd_isHouse (by decide) rfl (Nat.le_of_ble_eq_true rfl) dX4_of_7 rfl (fun r2 _ => ?_)
  refine g_if_ne K 13 15 dX4_of_10 rfl (by decide) (fun _ => ?_) (fun _ => ?_)
  · refine g_iconst K (-1 : Int32) ic_m1 14 dX4_of_13 rfl ?_
    exact gm_iret K hK hcl hr hlk dX4_of_14 rfl
  · refine g_aloadn K 0 rfl rfl 16 dX4_of_15 rfl ?_
    refine g_iloadn K 2 rfl rfl 17 dX4_of_16 rfl ?_
    refine g_iconst K (nI 0) ic_0 18 dX4_of_17 rfl ?_
    refine g_iconst K (nI 3) ic_3 19 dX4_of_18 rfl ?_
    refine gm_call K hK hcl 22 (ct_isIn μ1 x2 (nI 0) (nI 3)) (lw_V q1723 q1725 qs55 q158 q1726) wd_isIn (by decide) rfl (Nat.le_of_ble_eq_true rfl) dX4_of_19 rfl (fun r3 _ => ?_)
    refine g_if_eq K 25 32 dX4_of_22 rfl (by decide) (fun _ => ?_) (fun _ => ?_)
    · refine g_aloadn K 0 rfl rfl 33 dX4_of_32 rfl ?_
      refine g_iloadn K 2 rfl rfl 34 dX4_of_33 rfl ?_
      refine g_bipush K (nI 20) bp_20 36 dX4_of_34 rfl ?_
      refine g_bipush K (nI 23) bp_23 38 dX4_of_36 rfl ?_
      refine gm_call K hK hcl 41 (ct_isIn μ1 x2 (nI 20) (nI 23)) (lw_V q1723 q1725 qs55 q158 q1726) wd_isIn (by decide) rfl (Nat.le_of_ble_eq_true rfl) dX4_of_38 rfl (fun r4 _ => ?_)
      refine g_if_eq K 44 54 dX4_of_41 rfl (by decide) (fun _ => ?_) (fun _ => ?_)
      · refine g_aloadn K 0 rfl rfl 55 dX4_of_54 rfl ?_
        refine g_iloadn K 2 rfl rfl 56 dX4_of_55 rfl ?_
        refine g_bipush K (nI 30) bp_30 58 dX4_of_56 rfl ?_
        refine g_bipush K (nI 33) bp_33 60 dX4_of_58 rfl ?_
        refine gm_call K hK hcl 63 (ct_isIn μ1 x2 (nI 30) (nI 33)) (lw_V q1723 q1725 qs55 q158 q1726) wd_isIn (by decide) rfl (Nat.le_of_ble_eq_true rfl) dX4_of_60 rfl (fun r5 _ => ?_)
        refine g_if_eq K 66 76 dX4_of_63 rfl (by decide) (fun _ => ?_) (fun _ => ?_)
        · refine g_iloadn K 2 rfl rfl 77 dX4_of_76 rfl ?_
          refine g_iconst K (nI 4) ic_4 78 dX4_of_77 rfl ?_
          refine g_icmp_ne K 81 88 dX4_of_78 rfl (by decide) (fun _ => ?_) (fun _ => ?_)
          · refine g_aloadn K 0 rfl rfl 82 dX4_of_81 rfl ?_
            refine gm_get K hK hcl 7 85 (by decide) q1492 rfl dX4_of_82 rfl ?_
            refine g_iloadn K 1 rfl rfl 86 dX4_of_85 rfl ?_
            refine gm_ald K hK hcl 7 4 12 87 rfl dX4_of_86 rfl (fun v14 _ => ?_)
            exact gm_iret K hK hcl hr hlk dX4_of_87 rfl
          · refine g_iloadn K 2 rfl rfl 89 dX4_of_88 rfl ?_
            refine g_iconst K (nI 5) ic_5 90 dX4_of_89 rfl ?_
            refine g_icmp_ne K 93 100 dX4_of_90 rfl (by decide) (fun _ => ?_) (fun _ => ?_)
            · refine g_aloadn K 0 rfl rfl 94 dX4_of_93 rfl ?_
              refine gm_get K hK hcl 8 97 (by decide) q1493 rfl dX4_of_94 rfl ?_
              refine g_iloadn K 1 rfl rfl 98 dX4_of_97 rfl ?_
              refine gm_ald K hK hcl 8 5 12 99 rfl dX4_of_98 rfl (fun v13 _ => ?_)
              exact gm_iret K hK hcl hr hlk dX4_of_99 rfl
            · refine g_iloadn K 2 rfl rfl 101 dX4_of_100 rfl ?_
              refine g_bipush K (nI 6) bp_6 103 dX4_of_101 rfl ?_
              refine g_icmp_ne K 106 116 dX4_of_103 rfl (by decide) (fun _ => ?_) (fun _ => ?_)
              · refine g_aloadn K 0 rfl rfl 107 dX4_of_106 rfl ?_
                refine gm_get K hK hcl 1 110 (by decide) q1486 rfl dX4_of_107 rfl ?_
                refine g_bipush K (nI 55) bp_55 112 dX4_of_110 rfl ?_
                refine g_iloadn K 1 rfl rfl 113 dX4_of_112 rfl ?_
                refine g_iadd K 114 dX4_of_113 rfl ?_
                refine gm_ald K hK hcl 1 1 115 115 rfl dX4_of_114 rfl (fun v12 _ => ?_)
                exact gm_iret K hK hcl hr hlk dX4_of_115 rfl
              · refine g_iloadn K 2 rfl rfl 117 dX4_of_116 rfl ?_
                refine g_bipush K (nI 7) bp_7 119 dX4_of_117 rfl ?_
                refine g_icmp_ne K 122 132 dX4_of_119 rfl (by decide) (fun _ => ?_) (fun _ => ?_)
                · refine g_aloadn K 0 rfl rfl 123 dX4_of_122 rfl ?_
                  refine gm_get K hK hcl 1 126 (by decide) q1486 rfl dX4_of_123 rfl ?_
                  refine g_bipush K (nI 79) bp_79 128 dX4_of_126 rfl ?_
                  refine g_iloadn K 1 rfl rfl 129 dX4_of_128 rfl ?_
                  refine g_iadd K 130 dX4_of_129 rfl ?_
                  refine gm_ald K hK hcl 1 1 115 131 rfl dX4_of_130 rfl (fun v11 _ => ?_)
                  exact gm_iret K hK hcl hr hlk dX4_of_131 rfl
                · refine g_iloadn K 2 rfl rfl 133 dX4_of_132 rfl ?_
                  refine g_bipush K (nI 8) bp_8 135 dX4_of_133 rfl ?_
                  refine g_icmp_ne K 138 148 dX4_of_135 rfl (by decide) (fun _ => ?_) (fun _ => ?_)
                  · refine g_aloadn K 0 rfl rfl 139 dX4_of_138 rfl ?_
                    refine gm_get K hK hcl 1 142 (by decide) q1486 rfl dX4_of_139 rfl ?_
                    refine g_bipush K (nI 67) bp_67 144 dX4_of_142 rfl ?_
                    refine g_iloadn K 1 rfl rfl 145 dX4_of_144 rfl ?_
                    refine g_iadd K 146 dX4_of_145 rfl ?_
                    refine gm_ald K hK hcl 1 1 115 147 rfl dX4_of_146 rfl (fun v10 _ => ?_)
                    exact gm_iret K hK hcl hr hlk dX4_of_147 rfl
                  · refine g_iloadn K 2 rfl rfl 149 dX4_of_148 rfl ?_
                    refine g_bipush K (nI 9) bp_9 151 dX4_of_149 rfl ?_
                    refine g_icmp_ne K 154 164 dX4_of_151 rfl (by decide) (fun _ => ?_) (fun _ => ?_)
                    · refine g_aloadn K 0 rfl rfl 155 dX4_of_154 rfl ?_
                      refine gm_get K hK hcl 1 158 (by decide) q1486 rfl dX4_of_155 rfl ?_
                      refine g_bipush K (nI 91) bp_91 160 dX4_of_158 rfl ?_
                      refine g_iloadn K 1 rfl rfl 161 dX4_of_160 rfl ?_
                      refine g_iadd K 162 dX4_of_161 rfl ?_
                      refine gm_ald K hK hcl 1 1 115 163 rfl dX4_of_162 rfl (fun v9 _ => ?_)
                      exact gm_iret K hK hcl hr hlk dX4_of_163 rfl
                    · refine g_iloadn K 2 rfl rfl 165 dX4_of_164 rfl ?_
                      refine g_bipush K (nI 10) bp_10 167 dX4_of_165 rfl ?_
                      refine g_icmp_ne K 170 180 dX4_of_167 rfl (by decide) (fun _ => ?_) (fun _ => ?_)
                      · refine g_aloadn K 0 rfl rfl 171 dX4_of_170 rfl ?_
                        refine gm_get K hK hcl 1 174 (by decide) q1486 rfl dX4_of_171 rfl ?_
                        refine g_bipush K (nI 103) bp_103 176 dX4_of_174 rfl ?_
                        refine g_iloadn K 1 rfl rfl 177 dX4_of_176 rfl ?_
                        refine g_iadd K 178 dX4_of_177 rfl ?_
                        refine gm_ald K hK hcl 1 1 115 179 rfl dX4_of_178 rfl (fun v8 _ => ?_)
                        exact gm_iret K hK hcl hr hlk dX4_of_179 rfl
                      · refine g_iloadn K 2 rfl rfl 181 dX4_of_180 rfl ?_
                        refine g_bipush K (nI 11) bp_11 183 dX4_of_181 rfl ?_
                        refine g_icmp_ne K 186 194 dX4_of_183 rfl (by decide) (fun _ => ?_) (fun _ => ?_)
                        · refine g_aloadn K 0 rfl rfl 187 dX4_of_186 rfl ?_
                          refine g_iloadn K 1 rfl rfl 188 dX4_of_187 rfl ?_
                          refine gm_call K hK hcl 191 (ct_rentOf μ1 x1) (lw_V q1979 q1981 qs112 q158 q1982) wd_rentOf (by decide) rfl (Nat.le_of_ble_eq_true rfl) dX4_of_188 rfl (fun r7 _ => ?_)
                          refine g_goto K 210 dX4_of_191 (by decide) ?_
                          exact gm_iret K hK hcl hr hlk dX4_of_210 rfl
                        · refine g_iloadn K 2 rfl rfl 195 dX4_of_194 rfl ?_
                          refine g_bipush K (nI 12) bp_12 197 dX4_of_195 rfl ?_
                          refine g_icmp_ne K 200 209 dX4_of_197 rfl (by decide) (fun _ => ?_) (fun _ => ?_)
                          · refine g_aloadn K 0 rfl rfl 201 dX4_of_200 rfl ?_
                            refine gm_get K hK hcl 38 204 (by decide) q1523 rfl dX4_of_201 rfl ?_
                            refine g_iloadn K 1 rfl rfl 205 dX4_of_204 rfl ?_
                            refine gm_ald K hK hcl 38 19 24 206 rfl dX4_of_205 rfl (fun v6 _ => ?_)
                            refine g_goto K 210 dX4_of_206 (by decide) ?_
                            exact gm_iret K hK hcl hr hlk dX4_of_210 rfl
                          · refine g_iconst K (-1 : Int32) ic_m1 210 dX4_of_209 rfl ?_
                            exact gm_iret K hK hcl hr hlk dX4_of_210 rfl
        · refine g_aloadn K 0 rfl rfl 67 dX4_of_66 rfl ?_
          refine g_iloadn K 1 rfl rfl 68 dX4_of_67 rfl ?_
          refine g_iloadn K 2 rfl rfl 69 dX4_of_68 rfl ?_
          refine g_bipush K (nI 30) bp_30 71 dX4_of_69 rfl ?_
          refine g_isub K 72 dX4_of_71 rfl ?_
          refine gm_call K hK hcl 75 (ct_meltsOf μ1 x1 (x2 - (nI 30))) (lw_V q2021 q2023 qs122 q158 q2024) wd_meltsOf (by decide) rfl (Nat.le_of_ble_eq_true rfl) dX4_of_72 rfl (fun r15 _ => ?_)
          exact gm_iret K hK hcl hr hlk dX4_of_75 rfl
      · refine g_aloadn K 0 rfl rfl 45 dX4_of_44 rfl ?_
        refine g_iloadn K 1 rfl rfl 46 dX4_of_45 rfl ?_
        refine g_iloadn K 2 rfl rfl 47 dX4_of_46 rfl ?_
        refine g_bipush K (nI 20) bp_20 49 dX4_of_47 rfl ?_
        refine g_isub K 50 dX4_of_49 rfl ?_
        refine gm_call K hK hcl 53 (ct_gnawsOf μ1 x1 (x2 - (nI 20))) (lw_V q2007 q2009 qs119 q158 q2010) wd_gnawsOf (by decide) rfl (Nat.le_of_ble_eq_true rfl) dX4_of_50 rfl (fun r16 _ => ?_)
        exact gm_iret K hK hcl hr hlk dX4_of_53 rfl
    · refine g_aloadn K 0 rfl rfl 26 dX4_of_25 rfl ?_
      refine g_iloadn K 1 rfl rfl 27 dX4_of_26 rfl ?_
      refine g_iloadn K 2 rfl rfl 28 dX4_of_27 rfl ?_
      refine gm_call K hK hcl 31 (ct_wallOf μ1 x1 x2) (lw_V q1903 q1905 qs94 q158 q1906) wd_wallOf (by decide) rfl (Nat.le_of_ble_eq_true rfl) dX4_of_28 rfl (fun r17 _ => ?_)
      exact gm_iret K hK hcl hr hlk dX4_of_31 rfl
/-- book(II)I -/
def m_book (μ : Mem) (x1 : Int32) (x2 : Int32) : Option (Int32 × Mem) :=
  nm (up2 μ 0 0 (nI 0)) fun μ1 =>
  (rd μ1 1 115 (nI 2)).bind fun v2 =>
  (m_isIn μ1 x1 (nI 0) (v2 - (nI 1))).bind fun r3 =>
  if (bI r3) = 0 then
  some ((-2 : Int32), μ1)
  else
  (m_isIn μ1 x2 (nI 0) (nI 3)).bind fun r4 =>
  if (bI r4) = 0 then
  some ((-2 : Int32), μ1)
  else
  (rd μ1 9 600 (((nI 4) * x1) + x2)).bind fun v5 =>
  some (v5, μ1)
theorem wd_book : yX4_book.cls = RX4 ∧ yX4_book.cls ≠ "java/lang/invoke/MethodHandle" ∧ yX4_book.cls ≠ "java/lang/invoke/VarHandle" ∧ (parseMethodDescriptor yX4_book.desc).map (fun d => d.parameters.length) = some 2 := by decide +kernel
set_option maxRecDepth 100000 in
theorem ct_book (μ : Mem) (x1 : Int32) (x2 : Int32) : CtM yX4_book cX4_book 3 (some .int) 1 23 [.int x1, .int x2] μ (fun r => (some (.int r.1), r.2)) (m_book μ x1 x2) := by
  refine CtM.of (by decide) rfl (fun _ => Nat.le_of_ble_eq_true rfl) ?_
  intro l D cl ci cA am p e s m args below meth c hcl K hr hlk hK
  refine g_sub (ls' := [(0, .ref am), (1, .int x1), (2, .int x2)]) [0, 1, 2] rfl ?_
  unfold m_book
  refine g_aloadn K 0 rfl rfl 1 dX4_book_0 rfl ?_
  refine g_iconst K (nI 0) ic_0 2 dX4_book_1 rfl ?_
  refine gm_put K hK hcl 0 (ty := .int) 5 (by decide) q1485 rfl (by decide +kernel) rfl rfl rfl dX4_book_2 rfl (fun μ1 _ => ?_)
  refine g_aloadn K 0 rfl rfl 6 dX4_book_5 rfl ?_
  refine g_iloadn K 1 rfl rfl 7 dX4_book_6 rfl ?_
  refine g_iconst K (nI 0) ic_0 8 dX4_book_7 rfl ?_
  refine g_aloadn K 0 rfl rfl 9 dX4_book_8 rfl ?_
  refine gm_get K hK hcl 1 12 (by decide) q1486 rfl dX4_book_9 rfl ?_
  refine g_iconst K (nI 2) ic_2 13 dX4_book_12 rfl ?_
  refine gm_ald K hK hcl 1 1 115 14 rfl dX4_book_13 rfl (fun v2 _ => ?_)
  refine g_iconst K (nI 1) ic_1 15 dX4_book_14 rfl ?_
  refine g_isub K 16 dX4_book_15 rfl ?_
  refine gm_call K hK hcl 19 (ct_isIn μ1 x1 (nI 0) (v2 - (nI 1))) (lw_V q1723 q1725 qs55 q158 q1726) wd_isIn (by decide) rfl (Nat.le_of_ble_eq_true rfl) dX4_book_16 rfl (fun r3 _ => ?_)
  refine g_if_eq K 22 45 dX4_book_19 rfl (by decide) (fun _ => ?_) (fun _ => ?_)
  · refine g_bipush K (-2 : Int32) bp_m2 47 dX4_book_45 rfl ?_
    exact gm_iret K hK hcl hr hlk dX4_book_47 rfl
  · refine g_aloadn K 0 rfl rfl 23 dX4_book_22 rfl ?_
    refine g_iloadn K 2 rfl rfl 24 dX4_book_23 rfl ?_
    refine g_iconst K (nI 0) ic_0 25 dX4_book_24 rfl ?_
    refine g_iconst K (nI 3) ic_3 26 dX4_book_25 rfl ?_
    refine gm_call K hK hcl 29 (ct_isIn μ1 x2 (nI 0) (nI 3)) (lw_V q1723 q1725 qs55 q158 q1726) wd_isIn (by decide) rfl (Nat.le_of_ble_eq_true rfl) dX4_book_26 rfl (fun r4 _ => ?_)
    refine g_if_eq K 32 45 dX4_book_29 rfl (by decide) (fun _ => ?_) (fun _ => ?_)
    · refine g_bipush K (-2 : Int32) bp_m2 47 dX4_book_45 rfl ?_
      exact gm_iret K hK hcl hr hlk dX4_book_47 rfl
    · refine g_aloadn K 0 rfl rfl 33 dX4_book_32 rfl ?_
      refine gm_get K hK hcl 9 36 (by decide) q1494 rfl dX4_book_33 rfl ?_
      refine g_iconst K (nI 4) ic_4 37 dX4_book_36 rfl ?_
      refine g_iloadn K 1 rfl rfl 38 dX4_book_37 rfl ?_
      refine g_imul K 39 dX4_book_38 rfl ?_
      refine g_iloadn K 2 rfl rfl 40 dX4_book_39 rfl ?_
      refine g_iadd K 41 dX4_book_40 rfl ?_
      refine gm_ald K hK hcl 9 6 600 42 rfl dX4_book_41 rfl (fun v5 _ => ?_)
      refine g_goto K 47 dX4_book_42 (by decide) ?_
      exact gm_iret K hK hcl hr hlk dX4_book_47 rfl
/-- thinks()V -/
def m_thinks (μ : Mem) : Option (Mem) :=
  jn (fun (j1 : Mem) =>
  nm (up2 j1 5 0 (nI 1)) fun μ4 =>
  some μ4) (fun k2 =>
  lp (fun again6 (j5 : Int32 × Mem) =>
  if (nI 115) ≤ j5.1 then
  k2 j5.2
  else
  (rd j5.2 1 115 j5.1).bind fun v8 =>
  (wr j5.2 4 115 j5.1 v8).bind fun μ9 =>
  again6 ((j5.1 + (nI 1)), μ9)) fuel ((nI 0), μ))
theorem wd_thinks : yX4_thinks.cls = RX4 ∧ yX4_thinks.cls ≠ "java/lang/invoke/MethodHandle" ∧ yX4_thinks.cls ≠ "java/lang/invoke/VarHandle" ∧ (parseMethodDescriptor yX4_thinks.desc).map (fun d => d.parameters.length) = some 0 := by decide +kernel
set_option maxRecDepth 100000 in
theorem ct_thinks (μ : Mem) : CtM yX4_thinks cX4_thinks 2 none 0 0 [] μ (fun r => (none, r)) (m_thinks μ) := by
  refine CtM.of (by decide) rfl (fun _ => Nat.le_of_ble_eq_true rfl) ?_
  intro l D cl ci cA am p e s m args below meth c hcl K hr hlk hK
  refine g_sub (ls' := [(0, .ref am)]) [0] rfl ?_
  unfold m_thinks
  refine g_iconst K (nI 0) ic_0 1 dX4_thinks_0 rfl ?_
  refine g_istoren K [(0, .ref am), (1, .int (nI 0))] [1, 0] rfl (by decide) rfl 2 dX4_thinks_1 rfl ?_
  refine g_jn (head := 26) (L := fun j1 => [(0, .ref am)]) (sf := fun j1 => []) (mf := fun j1 => j1) (fun j1 => ?_) (fun k2 h3 => ?_)
  · try dsimp only
    refine g_aloadn K 0 rfl rfl 27 dX4_thinks_26 rfl ?_
    refine g_iconst K (nI 1) ic_1 28 dX4_thinks_27 rfl ?_
    refine gm_put K hK hcl 5 (ty := .boolean) 31 (by decide) q1490 rfl (by decide +kernel) rfl rfl rfl dX4_thinks_28 rfl (fun μ4 _ => ?_)
    exact gm_vret K hK hcl hr hlk dX4_thinks_31 rfl
  · refine g_lp (head := 2) (L := fun j5 => [(0, .ref am), (1, .int j5.1)]) (sf := fun j5 => []) (mf := fun j5 => j5.2) (fun again6 h7 j5 => ?_) fuel ((nI 0), μ)
    try dsimp only
    refine g_iloadn K 1 rfl rfl 3 dX4_thinks_2 rfl ?_
    refine g_bipush K (nI 115) bp_115 5 dX4_thinks_3 rfl ?_
    refine g_icmp_ge K 8 26 dX4_thinks_5 rfl (by decide) (fun _ => ?_) (fun _ => ?_)
    · refine g_sub (ls' := [(0, .ref am)]) [0] rfl ?_
      exact h3 j5.2
    · refine g_aloadn K 0 rfl rfl 9 dX4_thinks_8 rfl ?_
      refine gm_get K hK hcl 4 12 (by decide) q1489 rfl dX4_thinks_9 rfl ?_
      refine g_iloadn K 1 rfl rfl 13 dX4_thinks_12 rfl ?_
      refine g_aloadn K 0 rfl rfl 14 dX4_thinks_13 rfl ?_
      refine gm_get K hK hcl 1 17 (by decide) q1486 rfl dX4_thinks_14 rfl ?_
      refine g_iloadn K 1 rfl rfl 18 dX4_thinks_17 rfl ?_
      refine gm_ald K hK hcl 1 1 115 19 rfl dX4_thinks_18 rfl (fun v8 _ => ?_)
      refine gm_ast K hK hcl 4 3 115 20 rfl (fun _ => rfl) dX4_thinks_19 rfl (fun μ9 _ => ?_)
      refine g_iinc K (j5.1 + (nI 1)) 1 [(0, .ref am), (1, .int (j5.1 + (nI 1)))] [1, 0] rfl (by rw [ic_1]) (by decide) rfl 23 dX4_thinks_20 rfl ?_
      refine g_goto K 2 dX4_thinks_23 (by decide) ?_
      exact h7 ((j5.1 + (nI 1)), μ9)
/-- allOf(I)I -/
def m_allOf (μ : Mem) (x1 : Int32) : Option (Int32) :=
  lp (fun again2 (j1 : Int32 × Int32) =>
  if (μ 6 0) ≤ j1.2 then
  some j1.1
  else
  (rd μ 1 115 (x1 + j1.2)).bind fun v4 =>
  again2 ((j1.1 + v4), (j1.2 + (nI 1)))) fuel ((nI 0), (nI 0))
theorem wd_allOf : yX4_allOf.cls = RX4 ∧ yX4_allOf.cls ≠ "java/lang/invoke/MethodHandle" ∧ yX4_allOf.cls ≠ "java/lang/invoke/VarHandle" ∧ (parseMethodDescriptor yX4_allOf.desc).map (fun d => d.parameters.length) = some 1 := by decide +kernel
set_option maxRecDepth 100000 in
theorem ct_allOf (μ : Mem) (x1 : Int32) : CtM yX4_allOf cX4_allOf 4 (some .int) 0 0 [.int x1] μ (fun r => (some (.int r), μ)) (m_allOf μ x1) := by
  refine CtM.of (by decide) rfl (fun _ => Nat.le_of_ble_eq_true rfl) ?_
  intro l D cl ci cA am p e s m args below meth c hcl K hr hlk hK
  refine g_sub (ls' := [(0, .ref am), (1, .int x1)]) [0, 1] rfl ?_
  unfold m_allOf
  refine g_iconst K (nI 0) ic_0 1 dX4_allOf_0 rfl ?_
  refine g_istoren K [(0, .ref am), (1, .int x1), (2, .int (nI 0))] [1, 2, 0] rfl (by decide) rfl 2 dX4_allOf_1 rfl ?_
  refine g_iconst K (nI 0) ic_0 3 dX4_allOf_2 rfl ?_
  refine g_istoren K [(0, .ref am), (1, .int x1), (2, .int (nI 0)), (3, .int (nI 0))] [1, 2, 3, 0] rfl (by decide) rfl 4 dX4_allOf_3 rfl ?_
  refine g_lp (head := 4) (L := fun j1 => [(0, .ref am), (1, .int x1), (2, .int j1.1), (3, .int j1.2)]) (sf := fun j1 => []) (mf := fun j1 => μ) (fun again2 h3 j1 => ?_) fuel ((nI 0), (nI 0))
  try dsimp only
  refine g_iloadn K 3 rfl rfl 5 dX4_allOf_4 rfl ?_
  refine g_aloadn K 0 rfl rfl 6 dX4_allOf_5 rfl ?_
  refine gm_get K hK hcl 6 9 (by decide) q1491 rfl dX4_allOf_6 rfl ?_
  refine g_icmp_ge K 12 29 dX4_allOf_9 rfl (by decide) (fun _ => ?_) (fun _ => ?_)
  · refine g_iloadn K 2 rfl rfl 30 dX4_allOf_29 rfl ?_
    exact gm_iret K hK hcl hr hlk dX4_allOf_30 rfl
  · refine g_iloadn K 2 rfl rfl 13 dX4_allOf_12 rfl ?_
    refine g_aloadn K 0 rfl rfl 14 dX4_allOf_13 rfl ?_
    refine gm_get K hK hcl 1 17 (by decide) q1486 rfl dX4_allOf_14 rfl ?_
    refine g_iloadn K 1 rfl rfl 18 dX4_allOf_17 rfl ?_
    refine g_iloadn K 3 rfl rfl 19 dX4_allOf_18 rfl ?_
    refine g_iadd K 20 dX4_allOf_19 rfl ?_
    refine gm_ald K hK hcl 1 1 115 21 rfl dX4_allOf_20 rfl (fun v4 _ => ?_)
    refine g_iadd K 22 dX4_allOf_21 rfl ?_
    refine g_istoren K [(0, .ref am), (1, .int x1), (2, .int (j1.1 + v4)), (3, .int j1.2)] [1, 2, 0, 3] rfl (by decide) rfl 23 dX4_allOf_22 rfl ?_
    refine g_iinc K (j1.2 + (nI 1)) 3 [(0, .ref am), (1, .int x1), (2, .int (j1.1 + v4)), (3, .int (j1.2 + (nI 1)))] [1, 2, 3, 0] rfl (by rw [ic_1]) (by decide) rfl 26 dX4_allOf_23 rfl ?_
    refine g_goto K 4 dX4_allOf_26 (by decide) ?_
    exact h3 ((j1.1 + v4), (j1.2 + (nI 1)))
/-- endsThought()V -/
def m_endsThought (μ : Mem) : Option (Mem) :=
  jn (fun (j1 : Mem) =>
  nm (up2 j1 5 0 (nI 0)) fun μ4 =>
  some μ4) (fun k2 =>
  lp (fun again6 (j5 : Int32 × Mem) =>
  if (nI 115) ≤ j5.1 then
  k2 j5.2
  else
  (rd j5.2 4 115 j5.1).bind fun v8 =>
  (wr j5.2 1 115 j5.1 v8).bind fun μ9 =>
  again6 ((j5.1 + (nI 1)), μ9)) fuel ((nI 0), μ))
theorem wd_endsThought : yX4_endsThought.cls = RX4 ∧ yX4_endsThought.cls ≠ "java/lang/invoke/MethodHandle" ∧ yX4_endsThought.cls ≠ "java/lang/invoke/VarHandle" ∧ (parseMethodDescriptor yX4_endsThought.desc).map (fun d => d.parameters.length) = some 0 := by decide +kernel
set_option maxRecDepth 100000 in
theorem ct_endsThought (μ : Mem) : CtM yX4_endsThought cX4_endsThought 2 none 0 0 [] μ (fun r => (none, r)) (m_endsThought μ) := by
  refine CtM.of (by decide) rfl (fun _ => Nat.le_of_ble_eq_true rfl) ?_
  intro l D cl ci cA am p e s m args below meth c hcl K hr hlk hK
  refine g_sub (ls' := [(0, .ref am)]) [0] rfl ?_
  unfold m_endsThought
  refine g_iconst K (nI 0) ic_0 1 dX4_endsThought_0 rfl ?_
  refine g_istoren K [(0, .ref am), (1, .int (nI 0))] [1, 0] rfl (by decide) rfl 2 dX4_endsThought_1 rfl ?_
  refine g_jn (head := 26) (L := fun j1 => [(0, .ref am)]) (sf := fun j1 => []) (mf := fun j1 => j1) (fun j1 => ?_) (fun k2 h3 => ?_)
  · try dsimp only
    refine g_aloadn K 0 rfl rfl 27 dX4_endsThought_26 rfl ?_
    refine g_iconst K (nI 0) ic_0 28 dX4_endsThought_27 rfl ?_
    refine gm_put K hK hcl 5 (ty := .boolean) 31 (by decide) q1490 rfl (by decide +kernel) rfl rfl rfl dX4_endsThought_28 rfl (fun μ4 _ => ?_)
    exact gm_vret K hK hcl hr hlk dX4_endsThought_31 rfl
  · refine g_lp (head := 2) (L := fun j5 => [(0, .ref am), (1, .int j5.1)]) (sf := fun j5 => []) (mf := fun j5 => j5.2) (fun again6 h7 j5 => ?_) fuel ((nI 0), μ)
    try dsimp only
    refine g_iloadn K 1 rfl rfl 3 dX4_endsThought_2 rfl ?_
    refine g_bipush K (nI 115) bp_115 5 dX4_endsThought_3 rfl ?_
    refine g_icmp_ge K 8 26 dX4_endsThought_5 rfl (by decide) (fun _ => ?_) (fun _ => ?_)
    · refine g_sub (ls' := [(0, .ref am)]) [0] rfl ?_
      exact h3 j5.2
    · refine g_aloadn K 0 rfl rfl 9 dX4_endsThought_8 rfl ?_
      refine gm_get K hK hcl 1 12 (by decide) q1486 rfl dX4_endsThought_9 rfl ?_
      refine g_iloadn K 1 rfl rfl 13 dX4_endsThought_12 rfl ?_
      refine g_aloadn K 0 rfl rfl 14 dX4_endsThought_13 rfl ?_
      refine gm_get K hK hcl 4 17 (by decide) q1489 rfl dX4_endsThought_14 rfl ?_
      refine g_iloadn K 1 rfl rfl 18 dX4_endsThought_17 rfl ?_
      refine gm_ald K hK hcl 4 3 115 19 rfl dX4_endsThought_18 rfl (fun v8 _ => ?_)
      refine gm_ast K hK hcl 1 1 115 20 rfl (fun _ => rfl) dX4_endsThought_19 rfl (fun μ9 _ => ?_)
      refine g_iinc K (j5.1 + (nI 1)) 1 [(0, .ref am), (1, .int (j5.1 + (nI 1)))] [1, 0] rfl (by rw [ic_1]) (by decide) rfl 23 dX4_endsThought_20 rfl ?_
      refine g_goto K 2 dX4_endsThought_23 (by decide) ?_
      exact h7 ((j5.1 + (nI 1)), μ9)
/-- goes(II)I -/
def m_goes (μ : Mem) (x1 : Int32) (x2 : Int32) : Option (Int32 × Mem) :=
  nm (up2 μ 0 0 (nI 0)) fun μ1 =>
  (m_isIn μ1 x1 (nI 1) (nI 60)).bind fun r2 =>
  if (bI r2) = 0 then
  some ((-1 : Int32), μ1)
  else
  (m_isIn μ1 x2 (nI 0) (nI 3)).bind fun r3 =>
  if (bI r3) = 0 then
  some ((-1 : Int32), μ1)
  else
  (m_thinks μ1).bind fun r4 =>
  jn (fun (j5 : Mem) =>
  jn (fun (j8 : Int32) =>
  (m_endsThought j5).bind fun r11 =>
  some (j8, r11)) (fun k9 =>
  if x2 = 0 then
  (rd j5 1 115 (nI 5)).bind fun v18 =>
  k9 v18
  else
  if x2 = (nI 1) then
  (m_standingSet j5).bind fun r16 =>
  (m_onesOf j5 r16).bind fun r17 =>
  k9 r17
  else
  jn (fun (j12 : Int32) =>
  (m_allOf j5 j12).bind fun r15 =>
  k9 r15) (fun k13 =>
  if x2 = (nI 2) then
  k13 (nI 67)
  else
  k13 (nI 79)))) (fun k6 =>
  lp (fun again20 (j19 : Int32 × Mem) =>
  if x1 ≤ j19.1 then
  k6 j19.2
  else
  (m_goesBy j19.2).bind fun r22 =>
  again20 ((j19.1 + (nI 1)), r22.2)) fuel ((nI 0), r4))
theorem wd_goes : yX4_goes.cls = RX4 ∧ yX4_goes.cls ≠ "java/lang/invoke/MethodHandle" ∧ yX4_goes.cls ≠ "java/lang/invoke/VarHandle" ∧ (parseMethodDescriptor yX4_goes.desc).map (fun d => d.parameters.length) = some 2 := by decide +kernel
set_option maxRecDepth 100000 in
theorem ct_goes (μ : Mem) (x1 : Int32) (x2 : Int32) : CtM yX4_goes cX4_goes 4 (some .int) 7 163 [.int x1, .int x2] μ (fun r => (some (.int r.1), r.2)) (m_goes μ x1 x2) := by
  refine CtM.of (by decide) rfl (fun _ => Nat.le_of_ble_eq_true rfl) ?_
  intro l D cl ci cA am p e s m args below meth c hcl K hr hlk hK
  refine g_sub (ls' := [(0, .ref am), (1, .int x1), (2, .int x2)]) [0, 1, 2] rfl ?_
  unfold m_goes
  refine g_aloadn K 0 rfl rfl 1 dX4_goes_0 rfl ?_
  refine g_iconst K (nI 0) ic_0 2 dX4_goes_1 rfl ?_
  refine gm_put K hK hcl 0 (ty := .int) 5 (by decide) q1485 rfl (by decide +kernel) rfl rfl rfl dX4_goes_2 rfl (fun μ1 _ => ?_)
  refine g_aloadn K 0 rfl rfl 6 dX4_goes_5 rfl ?_
  refine g_iloadn K 1 rfl rfl 7 dX4_goes_6 rfl ?_
  refine g_iconst K (nI 1) ic_1 8 dX4_goes_7 rfl ?_
  refine g_bipush K (nI 60) bp_60 10 dX4_goes_8 rfl ?_
  refine gm_call K hK hcl 13 (ct_isIn μ1 x1 (nI 1) (nI 60)) (lw_V q1723 q1725 qs55 q158 q1726) wd_isIn (by decide) rfl (Nat.le_of_ble_eq_true rfl) dX4_goes_10 rfl (fun r2 _ => ?_)
  refine g_if_eq K 16 26 dX4_goes_13 rfl (by decide) (fun _ => ?_) (fun _ => ?_)
  · refine g_iconst K (-1 : Int32) ic_m1 27 dX4_goes_26 rfl ?_
    exact gm_iret K hK hcl hr hlk dX4_goes_27 rfl
  · refine g_aloadn K 0 rfl rfl 17 dX4_goes_16 rfl ?_
    refine g_iloadn K 2 rfl rfl 18 dX4_goes_17 rfl ?_
    refine g_iconst K (nI 0) ic_0 19 dX4_goes_18 rfl ?_
    refine g_iconst K (nI 3) ic_3 20 dX4_goes_19 rfl ?_
    refine gm_call K hK hcl 23 (ct_isIn μ1 x2 (nI 0) (nI 3)) (lw_V q1723 q1725 qs55 q158 q1726) wd_isIn (by decide) rfl (Nat.le_of_ble_eq_true rfl) dX4_goes_20 rfl (fun r3 _ => ?_)
    refine g_if_ne K 26 28 dX4_goes_23 rfl (by decide) (fun _ => ?_) (fun _ => ?_)
    · refine g_iconst K (-1 : Int32) ic_m1 27 dX4_goes_26 rfl ?_
      exact gm_iret K hK hcl hr hlk dX4_goes_27 rfl
    · refine g_aloadn K 0 rfl rfl 29 dX4_goes_28 rfl ?_
      refine gm_call K hK hcl 32 (ct_thinks μ1) (lw_V q2045 q2047 qs125 q158 q2048) wd_thinks (by decide) rfl (Nat.le_of_ble_eq_true rfl) dX4_goes_29 rfl (fun r4 _ => ?_)
      refine g_iconst K (nI 0) ic_0 33 dX4_goes_32 rfl ?_
      refine g_istoren K [(0, .ref am), (1, .int x1), (2, .int x2), (3, .int (nI 0))] [1, 2, 3, 0] rfl (by decide) rfl 34 dX4_goes_33 rfl ?_
      refine g_jn (head := 50) (L := fun j5 => [(0, .ref am), (2, .int x2)]) (sf := fun j5 => []) (mf := fun j5 => j5) (fun j5 => ?_) (fun k6 h7 => ?_)
      · try dsimp only
        refine g_iloadn K 1 rfl rfl 51 dX4_goes_50 rfl ?_
        refine g_jn (head := 95) (L := fun j8 => [(0, .ref am)]) (sf := fun j8 => [.int j8]) (mf := fun j8 => j5) (fun j8 => ?_) (fun k9 h10 => ?_)
        · try dsimp only
          refine g_istoren K [(0, .ref am), (3, .int j8)] [1, 0] rfl (by decide) rfl 96 dX4_goes_95 rfl ?_
          refine g_aloadn K 0 rfl rfl 97 dX4_goes_96 rfl ?_
          refine gm_call K hK hcl 100 (ct_endsThought j5) (lw_V q2053 q2055 qs127 q158 q2056) wd_endsThought (by decide) rfl (Nat.le_of_ble_eq_true rfl) dX4_goes_97 rfl (fun r11 _ => ?_)
          refine g_iloadn K 1 rfl rfl 101 dX4_goes_100 rfl ?_
          exact gm_iret K hK hcl hr hlk dX4_goes_101 rfl
        · refine g_if_ne K 54 63 dX4_goes_51 rfl (by decide) (fun _ => ?_) (fun _ => ?_)
          · refine g_aloadn K 0 rfl rfl 55 dX4_goes_54 rfl ?_
            refine gm_get K hK hcl 1 58 (by decide) q1486 rfl dX4_goes_55 rfl ?_
            refine g_iconst K (nI 5) ic_5 59 dX4_goes_58 rfl ?_
            refine gm_ald K hK hcl 1 1 115 60 rfl dX4_goes_59 rfl (fun v18 _ => ?_)
            refine g_goto K 95 dX4_goes_60 (by decide) ?_
            refine g_sub (ls' := [(0, .ref am)]) [0] rfl ?_
            exact h10 v18
          · refine g_iloadn K 1 rfl rfl 64 dX4_goes_63 rfl ?_
            refine g_iconst K (nI 1) ic_1 65 dX4_goes_64 rfl ?_
            refine g_icmp_ne K 68 79 dX4_goes_65 rfl (by decide) (fun _ => ?_) (fun _ => ?_)
            · refine g_aloadn K 0 rfl rfl 69 dX4_goes_68 rfl ?_
              refine g_aloadn K 0 rfl rfl 70 dX4_goes_69 rfl ?_
              refine gm_call K hK hcl 73 (ct_standingSet j5) (lw_V q1971 q1973 qs110 q158 q1974) wd_standingSet (by decide) rfl (Nat.le_of_ble_eq_true rfl) dX4_goes_70 rfl (fun r16 _ => ?_)
              refine gm_call K hK hcl 76 (ct_onesOf j5 r16) (lw_V q2029 q2031 qs124 q158 q2032) wd_onesOf (by decide) rfl (Nat.le_of_ble_eq_true rfl) dX4_goes_73 rfl (fun r17 _ => ?_)
              refine g_goto K 95 dX4_goes_76 (by decide) ?_
              refine g_sub (ls' := [(0, .ref am)]) [0] rfl ?_
              exact h10 r17
            · refine g_aloadn K 0 rfl rfl 80 dX4_goes_79 rfl ?_
              refine g_iloadn K 1 rfl rfl 81 dX4_goes_80 rfl ?_
              refine g_iconst K (nI 2) ic_2 82 dX4_goes_81 rfl ?_
              refine g_jn (head := 92) (L := fun j12 => [(0, .ref am)]) (sf := fun j12 => [.int j12, .ref am]) (mf := fun j12 => j5) (fun j12 => ?_) (fun k13 h14 => ?_)
              · try dsimp only
                refine gm_call K hK hcl 95 (ct_allOf j5 j12) (lw_V q2049 q2051 qs126 q158 q2052) wd_allOf (by decide) rfl (Nat.le_of_ble_eq_true rfl) dX4_goes_92 rfl (fun r15 _ => ?_)
                exact h10 r15
              · refine g_icmp_ne K 85 90 dX4_goes_82 rfl (by decide) (fun _ => ?_) (fun _ => ?_)
                · refine g_bipush K (nI 67) bp_67 87 dX4_goes_85 rfl ?_
                  refine g_goto K 92 dX4_goes_87 (by decide) ?_
                  refine g_sub (ls' := [(0, .ref am)]) [0] rfl ?_
                  exact h14 (nI 67)
                · refine g_bipush K (nI 79) bp_79 92 dX4_goes_90 rfl ?_
                  refine g_sub (ls' := [(0, .ref am)]) [0] rfl ?_
                  exact h14 (nI 79)
      · refine g_lp (head := 34) (L := fun j19 => [(0, .ref am), (1, .int x1), (2, .int x2), (3, .int j19.1)]) (sf := fun j19 => []) (mf := fun j19 => j19.2) (fun again20 h21 j19 => ?_) fuel ((nI 0), r4)
        try dsimp only
        refine g_iloadn K 3 rfl rfl 35 dX4_goes_34 rfl ?_
        refine g_iloadn K 1 rfl rfl 36 dX4_goes_35 rfl ?_
        refine g_icmp_ge K 39 50 dX4_goes_36 rfl (by decide) (fun _ => ?_) (fun _ => ?_)
        · refine g_sub (ls' := [(0, .ref am), (2, .int x2)]) [0, 2] rfl ?_
          exact h7 j19.2
        · refine g_aloadn K 0 rfl rfl 40 dX4_goes_39 rfl ?_
          refine gm_call K hK hcl 43 (ct_goesBy j19.2) (lw_V q1955 q1957 qs106 q158 q1958) wd_goesBy (by decide) rfl (Nat.le_of_ble_eq_true rfl) dX4_goes_40 rfl (fun r22 _ => ?_)
          refine g_pop K rfl 44 dX4_goes_43 rfl ?_
          refine g_iinc K (j19.1 + (nI 1)) 3 [(0, .ref am), (1, .int x1), (2, .int x2), (3, .int (j19.1 + (nI 1)))] [1, 2, 3, 0] rfl (by rw [ic_1]) (by decide) rfl 47 dX4_goes_44 rfl ?_
          refine g_goto K 34 dX4_goes_47 (by decide) ?_
          exact h21 ((j19.1 + (nI 1)), r22.2)
