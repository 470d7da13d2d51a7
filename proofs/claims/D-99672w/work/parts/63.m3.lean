/-- stands(I)I -/
def m_stands (μ : Mem) (x1 : Int32) : Option (Int32 × Mem) :=
  nm (up2 μ 0 0 (nI 0)) fun μ1 =>
  (m_isHouse μ1 x1).bind fun r2 =>
  if (bI r2) = 0 then
  some ((-2 : Int32), μ1)
  else
  (m_thinks μ1).bind fun r3 =>
  jn (fun (j4 : Int32 × Mem) =>
  (m_endsThought j4.2).bind fun r7 =>
  if j4.1 ≤ (nI 200) then
  some (j4.1, r7)
  else
  some ((-1 : Int32), r7)) (fun k5 =>
  lp (fun again9 (j8 : Int32 × Mem) =>
  (m_doesStand j8.2 x1).bind fun r11 =>
  if (bI r11) = 0 then
  k5 (j8.1, j8.2)
  else
  if (nI 200) < j8.1 then
  k5 (j8.1, j8.2)
  else
  (m_goesBy j8.2).bind fun r12 =>
  again9 ((j8.1 + (nI 1)), r12.2)) fuel ((nI 0), r3))
theorem wd_stands : yX4_stands.cls = RX4 ∧ yX4_stands.cls ≠ "java/lang/invoke/MethodHandle" ∧ yX4_stands.cls ≠ "java/lang/invoke/VarHandle" ∧ (parseMethodDescriptor yX4_stands.desc).map (fun d => d.parameters.length) = some 1 := by decide +kernel
set_option maxRecDepth 100000 in
theorem ct_stands (μ : Mem) (x1 : Int32) : CtM yX4_stands cX4_stands 3 (some .int) 7 163 [.int x1] μ (fun r => (some (.int r.1), r.2)) (m_stands μ x1) := by
  refine CtM.of (by decide) rfl (fun _ => Nat.le_of_ble_eq_true rfl) ?_
  intro l D cl ci cA am p e s m args below meth c hcl K hr hlk hK
  refine g_sub (ls' := [(0, .ref am), (1, .int x1)]) [0, 1] rfl ?_
  unfold m_stands
  refine g_aloadn K 0 rfl rfl 1 dX4_stands_0 rfl ?_
  refine g_iconst K (nI 0) ic_0 2 dX4_stands_1 rfl ?_
  refine gm_put K hK hcl 0 (ty := .int) 5 (by decide) q1485 rfl (by decide +kernel) rfl rfl rfl dX4_stands_2 rfl (fun μ1 _ => ?_)
  refine g_aloadn K 0 rfl rfl 6 dX4_stands_5 rfl ?_
  refine g_iloadn K 1 rfl rfl 7 dX4_stands_6 rfl ?_
  refine gm_call K hK hcl 10 (ct_isHouse μ1 x1) (lw_V q1735 q1737 qs57 q158 q1738) wd_isHouse (by decide) rfl (Nat.le_of_ble_eq_true rfl) dX4_stands_7 rfl (fun r2 _ => ?_)
  refine g_if_ne K 13 16 dX4_stands_10 rfl (by decide) (fun _ => ?_) (fun _ => ?_)
  · refine g_bipush K (-2 : Int32) bp_m2 15 dX4_stands_13 rfl ?_
    exact gm_iret K hK hcl hr hlk dX4_stands_15 rfl
  · refine g_aloadn K 0 rfl rfl 17 dX4_stands_16 rfl ?_
    refine gm_call K hK hcl 20 (ct_thinks μ1) (lw_V q2045 q2047 qs125 q158 q2048) wd_thinks (by decide) rfl (Nat.le_of_ble_eq_true rfl) dX4_stands_17 rfl (fun r3 _ => ?_)
    refine g_iconst K (nI 0) ic_0 21 dX4_stands_20 rfl ?_
    refine g_istoren K [(0, .ref am), (1, .int x1), (2, .int (nI 0))] [1, 2, 0] rfl (by decide) rfl 22 dX4_stands_21 rfl ?_
    refine g_jn (head := 49) (L := fun j4 => [(0, .ref am), (2, .int j4.1)]) (sf := fun j4 => []) (mf := fun j4 => j4.2) (fun j4 => ?_) (fun k5 h6 => ?_)
    · try dsimp only
      refine g_aloadn K 0 rfl rfl 50 dX4_stands_49 rfl ?_
      refine gm_call K hK hcl 53 (ct_endsThought j4.2) (lw_V q2053 q2055 qs127 q158 q2056) wd_endsThought (by decide) rfl (Nat.le_of_ble_eq_true rfl) dX4_stands_50 rfl (fun r7 _ => ?_)
      refine g_iloadn K 1 rfl rfl 54 dX4_stands_53 rfl ?_
      refine g_sipush K (nI 200) sp_200 57 dX4_stands_54 rfl ?_
      refine g_icmp_le K 60 64 dX4_stands_57 rfl (by decide) (fun _ => ?_) (fun _ => ?_)
      · refine g_iloadn K 1 rfl rfl 65 dX4_stands_64 rfl ?_
        exact gm_iret K hK hcl hr hlk dX4_stands_65 rfl
      · refine g_iconst K (-1 : Int32) ic_m1 61 dX4_stands_60 rfl ?_
        refine g_goto K 65 dX4_stands_61 (by decide) ?_
        exact gm_iret K hK hcl hr hlk dX4_stands_65 rfl
    · refine g_lp (head := 22) (L := fun j8 => [(0, .ref am), (1, .int x1), (2, .int j8.1)]) (sf := fun j8 => []) (mf := fun j8 => j8.2) (fun again9 h10 j8 => ?_) fuel ((nI 0), r3)
      try dsimp only
      refine g_aloadn K 0 rfl rfl 23 dX4_stands_22 rfl ?_
      refine g_iloadn K 1 rfl rfl 24 dX4_stands_23 rfl ?_
      refine gm_call K hK hcl 27 (ct_doesStand j8.2 x1) (lw_V q1911 q1913 qs96 q158 q1914) wd_doesStand (by decide) rfl (Nat.le_of_ble_eq_true rfl) dX4_stands_24 rfl (fun r11 _ => ?_)
      refine g_if_eq K 30 49 dX4_stands_27 rfl (by decide) (fun _ => ?_) (fun _ => ?_)
      · refine g_sub (ls' := [(0, .ref am), (2, .int j8.1)]) [0, 2] rfl ?_
        exact h6 (j8.1, j8.2)
      · refine g_iloadn K 2 rfl rfl 31 dX4_stands_30 rfl ?_
        refine g_sipush K (nI 200) sp_200 34 dX4_stands_31 rfl ?_
        refine g_icmp_gt K 37 49 dX4_stands_34 rfl (by decide) (fun _ => ?_) (fun _ => ?_)
        · refine g_sub (ls' := [(0, .ref am), (2, .int j8.1)]) [0, 2] rfl ?_
          exact h6 (j8.1, j8.2)
        · refine g_aloadn K 0 rfl rfl 38 dX4_stands_37 rfl ?_
          refine gm_call K hK hcl 41 (ct_goesBy j8.2) (lw_V q1955 q1957 qs106 q158 q1958) wd_goesBy (by decide) rfl (Nat.le_of_ble_eq_true rfl) dX4_stands_38 rfl (fun r12 _ => ?_)
          refine g_pop K rfl 42 dX4_stands_41 rfl ?_
          refine g_iloadn K 2 rfl rfl 43 dX4_stands_42 rfl ?_
          refine g_iconst K (nI 1) ic_1 44 dX4_stands_43 rfl ?_
          refine g_iadd K 45 dX4_stands_44 rfl ?_
          refine g_istoren K [(0, .ref am), (1, .int x1), (2, .int (j8.1 + (nI 1)))] [1, 2, 0] rfl (by decide) rfl 46 dX4_stands_45 rfl ?_
          refine g_goto K 22 dX4_stands_46 (by decide) ?_
          exact h10 ((j8.1 + (nI 1)), r12.2)
/-- stepCost(II)I -/
def m_stepCost (μ : Mem) (x1 : Int32) (x2 : Int32) : Option (Int32) :=
  (m_sumOf μ x1).bind fun r1 =>
  (m_sumOf μ x2).bind fun r2 =>
  some (r1 + r2)
theorem wd_stepCost : yX4_stepCost.cls = RX4 ∧ yX4_stepCost.cls ≠ "java/lang/invoke/MethodHandle" ∧ yX4_stepCost.cls ≠ "java/lang/invoke/VarHandle" ∧ (parseMethodDescriptor yX4_stepCost.desc).map (fun d => d.parameters.length) = some 2 := by decide +kernel
set_option maxRecDepth 100000 in
theorem ct_stepCost (μ : Mem) (x1 : Int32) (x2 : Int32) : CtM yX4_stepCost cX4_stepCost 3 (some .int) 2 43 [.int x1, .int x2] μ (fun r => (some (.int r), μ)) (m_stepCost μ x1 x2) := by
  refine CtM.of (by decide) rfl (fun _ => Nat.le_of_ble_eq_true rfl) ?_
  intro l D cl ci cA am p e s m args below meth c hcl K hr hlk hK
  refine g_sub (ls' := [(0, .ref am), (1, .int x1), (2, .int x2)]) [0, 1, 2] rfl ?_
  unfold m_stepCost
  refine g_aloadn K 0 rfl rfl 1 dX4_stepCost_0 rfl ?_
  refine g_iloadn K 1 rfl rfl 2 dX4_stepCost_1 rfl ?_
  refine gm_call K hK hcl 5 (ct_sumOf μ x1) (lw_V q1915 q1917 qs97 q158 q1918) wd_sumOf (by decide) rfl (Nat.le_of_ble_eq_true rfl) dX4_stepCost_2 rfl (fun r1 _ => ?_)
  refine g_aloadn K 0 rfl rfl 6 dX4_stepCost_5 rfl ?_
  refine g_iloadn K 2 rfl rfl 7 dX4_stepCost_6 rfl ?_
  refine gm_call K hK hcl 10 (ct_sumOf μ x2) (lw_V q1915 q1917 qs97 q158 q1918) wd_sumOf (by decide) rfl (Nat.le_of_ble_eq_true rfl) dX4_stepCost_7 rfl (fun r2 _ => ?_)
  refine g_iadd K 11 dX4_stepCost_10 rfl ?_
  exact gm_iret K hK hcl hr hlk dX4_stepCost_11 rfl
/-- findsCosts(IZ)V -/
def m_findsCosts (μ : Mem) (x1 : Int32) (x2 : Bool) : Option (Mem) :=
  jn (fun (j1 : Mem) =>
  lp (fun again5 (j4 : Int32 × Mem) =>
  if (j4.2 6 0) ≤ j4.1 then
  some j4.2
  else
  lp (fun again8 (j7 : Int32 × Mem) =>
  if (j7.2 6 0) ≤ j7.1 then
  again5 ((j4.1 + (nI 1)), j7.2)
  else
  lp (fun again11 (j10 : Int32 × Mem) =>
  if (j10.2 6 0) ≤ j10.1 then
  again8 ((j7.1 + (nI 1)), j10.2)
  else
  (rd j10.2 38 24 j7.1).bind fun v13 =>
  (m_has j10.2 v13 j10.1).bind fun r14 =>
  if (bI r14) = 0 then
  again11 ((j10.1 + (nI 1)), j10.2)
  else
  (rd j10.2 41 12 j7.1).bind fun v15 =>
  if v15 = (100000000 : Int32) then
  again11 ((j10.1 + (nI 1)), j10.2)
  else
  jn (fun (j16 : Int32) =>
  (rd j10.2 41 12 j10.1).bind fun v19 =>
  (m_lesser j10.2 v19 j16).bind fun r20 =>
  (wr j10.2 41 12 j10.1 r20).bind fun μ21 =>
  again11 ((j10.1 + (nI 1)), μ21)) (fun k17 =>
  if (bI x2) = 0 then
  (rd j10.2 41 12 j7.1).bind fun v22 =>
  (m_stepCost j10.2 j7.1 j10.1).bind fun r23 =>
  k17 (v22 + r23)
  else
  (rd j10.2 41 12 j7.1).bind fun v24 =>
  (m_stepCost j10.2 j7.1 j10.1).bind fun r25 =>
  (m_greater j10.2 v24 r25).bind fun r26 =>
  k17 r26)) fuel ((nI 0), j7.2)) fuel ((nI 0), j4.2)) fuel ((nI 0), j1)) (fun k2 =>
  lp (fun again28 (j27 : Int32 × Mem) =>
  if (j27.2 6 0) ≤ j27.1 then
  k2 j27.2
  else
  jn (fun (j30 : Int32) =>
  (wr j27.2 41 12 j27.1 j30).bind fun μ33 =>
  again28 ((j27.1 + (nI 1)), μ33)) (fun k31 =>
  if j27.1 = x1 then
  k31 (nI 0)
  else
  k31 (100000000 : Int32))) fuel ((nI 0), μ))
theorem wd_findsCosts : yX4_findsCosts.cls = RX4 ∧ yX4_findsCosts.cls ≠ "java/lang/invoke/MethodHandle" ∧ yX4_findsCosts.cls ≠ "java/lang/invoke/VarHandle" ∧ (parseMethodDescriptor yX4_findsCosts.desc).map (fun d => d.parameters.length) = some 2 := by decide +kernel
set_option maxRecDepth 100000 in
theorem ct_findsCosts (μ : Mem) (x1 : Int32) (x2 : Bool) : CtM yX4_findsCosts cX4_findsCosts 7 none 3 65 [.int x1, .int (bI x2)] μ (fun r => (none, r)) (m_findsCosts μ x1 x2) := by
  refine CtM.of (by decide) rfl (fun _ => Nat.le_of_ble_eq_true rfl) ?_
  intro l D cl ci cA am p e s m args below meth c hcl K hr hlk hK
  refine g_sub (ls' := [(0, .ref am), (1, .int x1), (2, .int (bI x2))]) [0, 1, 2] rfl ?_
  unfold m_findsCosts
  refine g_iconst K (nI 0) ic_0 1 dX4_findsCosts_0 rfl ?_
  refine g_istoren K [(0, .ref am), (1, .int x1), (2, .int (bI x2)), (3, .int (nI 0))] [1, 2, 3, 0] rfl (by decide) rfl 2 dX4_findsCosts_1 rfl ?_
  refine g_jn (head := 34) (L := fun j1 => [(0, .ref am), (2, .int (bI x2))]) (sf := fun j1 => []) (mf := fun j1 => j1) (fun j1 => ?_) (fun k2 h3 => ?_)
  · try dsimp only
    refine g_iconst K (nI 0) ic_0 35 dX4_findsCosts_34 rfl ?_
    refine g_istoren K [(0, .ref am), (2, .int (bI x2)), (3, .int (nI 0))] [1, 2, 0] rfl (by decide) rfl 36 dX4_findsCosts_35 rfl ?_
    refine g_lp (head := 36) (L := fun j4 => [(0, .ref am), (2, .int (bI x2)), (3, .int j4.1)]) (sf := fun j4 => []) (mf := fun j4 => j4.2) (fun again5 h6 j4 => ?_) fuel ((nI 0), j1)
    try dsimp only
    refine g_iloadn K 2 rfl rfl 37 dX4_findsCosts_36 rfl ?_
    refine g_aloadn K 0 rfl rfl 38 dX4_findsCosts_37 rfl ?_
    refine gm_get K hK hcl 6 41 (by decide) q1491 rfl dX4_findsCosts_38 rfl ?_
    refine g_icmp_ge K 44 182 dX4_findsCosts_41 rfl (by decide) (fun _ => ?_) (fun _ => ?_)
    · exact gm_vret K hK hcl hr hlk dX4_findsCosts_182 rfl
    · refine g_iconst K (nI 0) ic_0 45 dX4_findsCosts_44 rfl ?_
      refine g_istore K [(0, .ref am), (2, .int (bI x2)), (3, .int j4.1), (4, .int (nI 0))] [1, 2, 3, 0] (by decide) rfl 47 dX4_findsCosts_45 rfl ?_
      refine g_lp (head := 47) (L := fun j7 => [(0, .ref am), (2, .int (bI x2)), (3, .int j4.1), (4, .int j7.1)]) (sf := fun j7 => []) (mf := fun j7 => j7.2) (fun again8 h9 j7 => ?_) fuel ((nI 0), j4.2)
      try dsimp only
      refine g_iload K 3 rfl 49 dX4_findsCosts_47 rfl ?_
      refine g_aloadn K 0 rfl rfl 50 dX4_findsCosts_49 rfl ?_
      refine gm_get K hK hcl 6 53 (by decide) q1491 rfl dX4_findsCosts_50 rfl ?_
      refine g_icmp_ge K 56 176 dX4_findsCosts_53 rfl (by decide) (fun _ => ?_) (fun _ => ?_)
      · refine g_iinc K (j4.1 + (nI 1)) 2 [(0, .ref am), (2, .int (bI x2)), (3, .int (j4.1 + (nI 1)))] [1, 2, 0] rfl (by rw [ic_1]) (by decide) rfl 179 dX4_findsCosts_176 rfl ?_
        refine g_goto K 36 dX4_findsCosts_179 (by decide) ?_
        exact h6 ((j4.1 + (nI 1)), j7.2)
      · refine g_iconst K (nI 0) ic_0 57 dX4_findsCosts_56 rfl ?_
        refine g_istore K [(0, .ref am), (2, .int (bI x2)), (3, .int j4.1), (4, .int j7.1), (5, .int (nI 0))] [1, 2, 3, 4, 0] (by decide) rfl 59 dX4_findsCosts_57 rfl ?_
        refine g_lp (head := 59) (L := fun j10 => [(0, .ref am), (2, .int (bI x2)), (3, .int j4.1), (4, .int j7.1), (5, .int j10.1)]) (sf := fun j10 => []) (mf := fun j10 => j10.2) (fun again11 h12 j10 => ?_) fuel ((nI 0), j7.2)
        try dsimp only
        refine g_iload K 4 rfl 61 dX4_findsCosts_59 rfl ?_
        refine g_aloadn K 0 rfl rfl 62 dX4_findsCosts_61 rfl ?_
        refine gm_get K hK hcl 6 65 (by decide) q1491 rfl dX4_findsCosts_62 rfl ?_
        refine g_icmp_ge K 68 170 dX4_findsCosts_65 rfl (by decide) (fun _ => ?_) (fun _ => ?_)
        · refine g_iinc K (j7.1 + (nI 1)) 3 [(0, .ref am), (2, .int (bI x2)), (3, .int j4.1), (4, .int (j7.1 + (nI 1)))] [1, 2, 3, 0] rfl (by rw [ic_1]) (by decide) rfl 173 dX4_findsCosts_170 rfl ?_
          refine g_goto K 47 dX4_findsCosts_173 (by decide) ?_
          exact h9 ((j7.1 + (nI 1)), j10.2)
        · refine g_aloadn K 0 rfl rfl 69 dX4_findsCosts_68 rfl ?_
          refine g_aloadn K 0 rfl rfl 70 dX4_findsCosts_69 rfl ?_
          refine gm_get K hK hcl 38 73 (by decide) q1523 rfl dX4_findsCosts_70 rfl ?_
          refine g_iload K 3 rfl 75 dX4_findsCosts_73 rfl ?_
          refine gm_ald K hK hcl 38 19 24 76 rfl dX4_findsCosts_75 rfl (fun v13 _ => ?_)
          refine g_iload K 4 rfl 78 dX4_findsCosts_76 rfl ?_
          refine gm_call K hK hcl 81 (ct_has j10.2 v13 j10.1) (lw_V q1931 q1933 qs101 q158 q1934) wd_has (by decide) rfl (Nat.le_of_ble_eq_true rfl) dX4_findsCosts_78 rfl (fun r14 _ => ?_)
          refine g_if_eq K 84 164 dX4_findsCosts_81 rfl (by decide) (fun _ => ?_) (fun _ => ?_)
          · refine g_iinc K (j10.1 + (nI 1)) 4 [(0, .ref am), (2, .int (bI x2)), (3, .int j4.1), (4, .int j7.1), (5, .int (j10.1 + (nI 1)))] [1, 2, 3, 4, 0] rfl (by rw [ic_1]) (by decide) rfl 167 dX4_findsCosts_164 rfl ?_
            refine g_goto K 59 dX4_findsCosts_167 (by decide) ?_
            exact h12 ((j10.1 + (nI 1)), j10.2)
          · refine g_aloadn K 0 rfl rfl 85 dX4_findsCosts_84 rfl ?_
            refine gm_get K hK hcl 41 88 (by decide) q1526 rfl dX4_findsCosts_85 rfl ?_
            refine g_iload K 3 rfl 90 dX4_findsCosts_88 rfl ?_
            refine gm_ald K hK hcl 41 22 12 91 rfl dX4_findsCosts_90 rfl (fun v15 _ => ?_)
            refine g_ldcw K q2073 94 dX4_findsCosts_91 rfl ?_
            refine g_icmp_ne K 97 100 dX4_findsCosts_94 rfl (by decide) (fun _ => ?_) (fun _ => ?_)
            · refine g_goto K 164 dX4_findsCosts_97 (by decide) ?_
              refine g_iinc K (j10.1 + (nI 1)) 4 [(0, .ref am), (2, .int (bI x2)), (3, .int j4.1), (4, .int j7.1), (5, .int (j10.1 + (nI 1)))] [1, 2, 3, 4, 0] rfl (by rw [ic_1]) (by decide) rfl 167 dX4_findsCosts_164 rfl ?_
              refine g_goto K 59 dX4_findsCosts_167 (by decide) ?_
              exact h12 ((j10.1 + (nI 1)), j10.2)
            · refine g_iloadn K 1 rfl rfl 101 dX4_findsCosts_100 rfl ?_
              refine g_jn (head := 142) (L := fun j16 => [(0, .ref am), (2, .int (bI x2)), (3, .int j4.1), (4, .int j7.1), (5, .int j10.1)]) (sf := fun j16 => [.int j16]) (mf := fun j16 => j10.2) (fun j16 => ?_) (fun k17 h18 => ?_)
              · try dsimp only
                refine g_istore K [(0, .ref am), (2, .int (bI x2)), (3, .int j4.1), (4, .int j7.1), (5, .int j10.1), (6, .int j16)] [1, 2, 3, 4, 5, 0] (by decide) rfl 144 dX4_findsCosts_142 rfl ?_
                refine g_aloadn K 0 rfl rfl 145 dX4_findsCosts_144 rfl ?_
                refine gm_get K hK hcl 41 148 (by decide) q1526 rfl dX4_findsCosts_145 rfl ?_
                refine g_iload K 4 rfl 150 dX4_findsCosts_148 rfl ?_
                refine g_aloadn K 0 rfl rfl 151 dX4_findsCosts_150 rfl ?_
                refine g_aloadn K 0 rfl rfl 152 dX4_findsCosts_151 rfl ?_
                refine gm_get K hK hcl 41 155 (by decide) q1526 rfl dX4_findsCosts_152 rfl ?_
                refine g_iload K 4 rfl 157 dX4_findsCosts_155 rfl ?_
                refine gm_ald K hK hcl 41 22 12 158 rfl dX4_findsCosts_157 rfl (fun v19 _ => ?_)
                refine g_iload K 5 rfl 160 dX4_findsCosts_158 rfl ?_
                refine gm_call K hK hcl 163 (ct_lesser j10.2 v19 j16) (lw_V q2025 q2027 qs123 q158 q2028) wd_lesser (by decide) rfl (Nat.le_of_ble_eq_true rfl) dX4_findsCosts_160 rfl (fun r20 _ => ?_)
                refine gm_ast K hK hcl 41 22 12 164 rfl (fun _ => rfl) dX4_findsCosts_163 rfl (fun μ21 _ => ?_)
                refine g_iinc K (j10.1 + (nI 1)) 4 [(0, .ref am), (2, .int (bI x2)), (3, .int j4.1), (4, .int j7.1), (5, .int (j10.1 + (nI 1)))] [1, 2, 3, 4, 0] rfl (by rw [ic_1]) (by decide) rfl 167 dX4_findsCosts_164 rfl ?_
                refine g_goto K 59 dX4_findsCosts_167 (by decide) ?_
                exact h12 ((j10.1 + (nI 1)), μ21)
              · refine g_if_eq K 104 126 dX4_findsCosts_101 rfl (by decide) (fun _ => ?_) (fun _ => ?_)
                · refine g_aloadn K 0 rfl rfl 127 dX4_findsCosts_126 rfl ?_
                  refine gm_get K hK hcl 41 130 (by decide) q1526 rfl dX4_findsCosts_127 rfl ?_
                  refine g_iload K 3 rfl 132 dX4_findsCosts_130 rfl ?_
                  refine gm_ald K hK hcl 41 22 12 133 rfl dX4_findsCosts_132 rfl (fun v22 _ => ?_)
                  refine g_aloadn K 0 rfl rfl 134 dX4_findsCosts_133 rfl ?_
                  refine g_iload K 3 rfl 136 dX4_findsCosts_134 rfl ?_
                  refine g_iload K 4 rfl 138 dX4_findsCosts_136 rfl ?_
                  refine gm_call K hK hcl 141 (ct_stepCost j10.2 j7.1 j10.1) (lw_V q2074 q2076 qs130 q158 q2077) wd_stepCost (by decide) rfl (Nat.le_of_ble_eq_true rfl) dX4_findsCosts_138 rfl (fun r23 _ => ?_)
                  refine g_iadd K 142 dX4_findsCosts_141 rfl ?_
                  exact h18 (v22 + r23)
                · refine g_aloadn K 0 rfl rfl 105 dX4_findsCosts_104 rfl ?_
                  refine g_aloadn K 0 rfl rfl 106 dX4_findsCosts_105 rfl ?_
                  refine gm_get K hK hcl 41 109 (by decide) q1526 rfl dX4_findsCosts_106 rfl ?_
                  refine g_iload K 3 rfl 111 dX4_findsCosts_109 rfl ?_
                  refine gm_ald K hK hcl 41 22 12 112 rfl dX4_findsCosts_111 rfl (fun v24 _ => ?_)
                  refine g_aloadn K 0 rfl rfl 113 dX4_findsCosts_112 rfl ?_
                  refine g_iload K 3 rfl 115 dX4_findsCosts_113 rfl ?_
                  refine g_iload K 4 rfl 117 dX4_findsCosts_115 rfl ?_
                  refine gm_call K hK hcl 120 (ct_stepCost j10.2 j7.1 j10.1) (lw_V q2074 q2076 qs130 q158 q2077) wd_stepCost (by decide) rfl (Nat.le_of_ble_eq_true rfl) dX4_findsCosts_117 rfl (fun r25 _ => ?_)
                  refine gm_call K hK hcl 123 (ct_greater j10.2 v24 r25) (lw_V q1967 q1969 qs109 q158 q1970) wd_greater (by decide) rfl (Nat.le_of_ble_eq_true rfl) dX4_findsCosts_120 rfl (fun r26 _ => ?_)
                  refine g_goto K 142 dX4_findsCosts_123 (by decide) ?_
                  exact h18 r26
  · refine g_lp (head := 2) (L := fun j27 => [(0, .ref am), (1, .int x1), (2, .int (bI x2)), (3, .int j27.1)]) (sf := fun j27 => []) (mf := fun j27 => j27.2) (fun again28 h29 j27 => ?_) fuel ((nI 0), μ)
    try dsimp only
    refine g_iloadn K 3 rfl rfl 3 dX4_findsCosts_2 rfl ?_
    refine g_aloadn K 0 rfl rfl 4 dX4_findsCosts_3 rfl ?_
    refine gm_get K hK hcl 6 7 (by decide) q1491 rfl dX4_findsCosts_4 rfl ?_
    refine g_icmp_ge K 10 34 dX4_findsCosts_7 rfl (by decide) (fun _ => ?_) (fun _ => ?_)
    · refine g_sub (ls' := [(0, .ref am), (2, .int (bI x2))]) [0, 2] rfl ?_
      exact h3 j27.2
    · refine g_aloadn K 0 rfl rfl 11 dX4_findsCosts_10 rfl ?_
      refine gm_get K hK hcl 41 14 (by decide) q1526 rfl dX4_findsCosts_11 rfl ?_
      refine g_iloadn K 3 rfl rfl 15 dX4_findsCosts_14 rfl ?_
      refine g_iloadn K 3 rfl rfl 16 dX4_findsCosts_15 rfl ?_
      refine g_iloadn K 1 rfl rfl 17 dX4_findsCosts_16 rfl ?_
      refine g_jn (head := 27) (L := fun j30 => [(0, .ref am), (1, .int x1), (2, .int (bI x2)), (3, .int j27.1)]) (sf := fun j30 => [.int j30, .int j27.1, .ref (am + 22)]) (mf := fun j30 => j27.2) (fun j30 => ?_) (fun k31 h32 => ?_)
      · try dsimp only
        refine gm_ast K hK hcl 41 22 12 28 rfl (fun _ => rfl) dX4_findsCosts_27 rfl (fun μ33 _ => ?_)
        refine g_iinc K (j27.1 + (nI 1)) 3 [(0, .ref am), (1, .int x1), (2, .int (bI x2)), (3, .int (j27.1 + (nI 1)))] [1, 2, 3, 0] rfl (by rw [ic_1]) (by decide) rfl 31 dX4_findsCosts_28 rfl ?_
        refine g_goto K 2 dX4_findsCosts_31 (by decide) ?_
        exact h29 ((j27.1 + (nI 1)), μ33)
      · refine g_icmp_ne K 20 24 dX4_findsCosts_17 rfl (by decide) (fun _ => ?_) (fun _ => ?_)
        · refine g_iconst K (nI 0) ic_0 21 dX4_findsCosts_20 rfl ?_
          refine g_goto K 27 dX4_findsCosts_21 (by decide) ?_
          exact h32 (nI 0)
        · refine g_ldcw K q2073 27 dX4_findsCosts_24 rfl ?_
          exact h32 (100000000 : Int32)
/-- costOf(IIZ)I -/
def m_costOf (μ : Mem) (x1 : Int32) (x2 : Int32) (x3 : Bool) : Option (Int32 × Mem) :=
  (m_isHouse μ x1).bind fun r1 =>
  if (bI r1) = 0 then
  some ((-1 : Int32), μ)
  else
  (m_isHouse μ x2).bind fun r2 =>
  if (bI r2) = 0 then
  some ((-1 : Int32), μ)
  else
  (m_findsCosts μ x1 x3).bind fun r3 =>
  (rd r3 41 12 x2).bind fun v4 =>
  if v4 = (100000000 : Int32) then
  some ((-1 : Int32), r3)
  else
  (rd r3 41 12 x2).bind fun v5 =>
  some (v5, r3)
theorem wd_costOf : yX4_costOf.cls = RX4 ∧ yX4_costOf.cls ≠ "java/lang/invoke/MethodHandle" ∧ yX4_costOf.cls ≠ "java/lang/invoke/VarHandle" ∧ (parseMethodDescriptor yX4_costOf.desc).map (fun d => d.parameters.length) = some 3 := by decide +kernel
set_option maxRecDepth 100000 in
theorem ct_costOf (μ : Mem) (x1 : Int32) (x2 : Int32) (x3 : Bool) : CtM yX4_costOf cX4_costOf 4 (some .int) 4 91 [.int x1, .int x2, .int (bI x3)] μ (fun r => (some (.int r.1), r.2)) (m_costOf μ x1 x2 x3) := by
  refine CtM.of (by decide) rfl (fun _ => Nat.le_of_ble_eq_true rfl) ?_
  intro l D cl ci cA am p e s m args below meth c hcl K hr hlk hK
  refine g_sub (ls' := [(0, .ref am), (1, .int x1), (2, .int x2), (3, .int (bI x3))]) [0, 1, 2, 3] rfl ?_
  unfold m_costOf
  refine g_aloadn K 0 rfl rfl 1 dX4_costOf_0 rfl ?_
  refine g_iloadn K 1 rfl rfl 2 dX4_costOf_1 rfl ?_
  refine gm_call K hK hcl 5 (ct_isHouse μ x1) (lw_V q1735 q1737 qs57 q158 q1738) wd_isHouse (by decide) rfl (Nat.le_of_ble_eq_true rfl) dX4_costOf_2 rfl (fun r1 _ => ?_)
  refine g_if_eq K 8 16 dX4_costOf_5 rfl (by decide) (fun _ => ?_) (fun _ => ?_)
  · refine g_iconst K (-1 : Int32) ic_m1 17 dX4_costOf_16 rfl ?_
    exact gm_iret K hK hcl hr hlk dX4_costOf_17 rfl
  · refine g_aloadn K 0 rfl rfl 9 dX4_costOf_8 rfl ?_
    refine g_iloadn K 2 rfl rfl 10 dX4_costOf_9 rfl ?_
    refine gm_call K hK hcl 13 (ct_isHouse μ x2) (lw_V q1735 q1737 qs57 q158 q1738) wd_isHouse (by decide) rfl (Nat.le_of_ble_eq_true rfl) dX4_costOf_10 rfl (fun r2 _ => ?_)
    refine g_if_ne K 16 18 dX4_costOf_13 rfl (by decide) (fun _ => ?_) (fun _ => ?_)
    · refine g_iconst K (-1 : Int32) ic_m1 17 dX4_costOf_16 rfl ?_
      exact gm_iret K hK hcl hr hlk dX4_costOf_17 rfl
    · refine g_aloadn K 0 rfl rfl 19 dX4_costOf_18 rfl ?_
      refine g_iloadn K 1 rfl rfl 20 dX4_costOf_19 rfl ?_
      refine g_iloadn K 3 rfl rfl 21 dX4_costOf_20 rfl ?_
      refine gm_call K hK hcl 24 (ct_findsCosts μ x1 x3) (lw_V q2069 q2071 qs129 q158 q2072) wd_findsCosts (by decide) rfl (Nat.le_of_ble_eq_true rfl) dX4_costOf_21 rfl (fun r3 _ => ?_)
      refine g_aloadn K 0 rfl rfl 25 dX4_costOf_24 rfl ?_
      refine gm_get K hK hcl 41 28 (by decide) q1526 rfl dX4_costOf_25 rfl ?_
      refine g_iloadn K 2 rfl rfl 29 dX4_costOf_28 rfl ?_
      refine gm_ald K hK hcl 41 22 12 30 rfl dX4_costOf_29 rfl (fun v4 _ => ?_)
      refine g_ldcw K q2073 33 dX4_costOf_30 rfl ?_
      refine g_icmp_ne K 36 40 dX4_costOf_33 rfl (by decide) (fun _ => ?_) (fun _ => ?_)
      · refine g_iconst K (-1 : Int32) ic_m1 37 dX4_costOf_36 rfl ?_
        refine g_goto K 46 dX4_costOf_37 (by decide) ?_
        exact gm_iret K hK hcl hr hlk dX4_costOf_46 rfl
      · refine g_aloadn K 0 rfl rfl 41 dX4_costOf_40 rfl ?_
        refine gm_get K hK hcl 41 44 (by decide) q1526 rfl dX4_costOf_41 rfl ?_
        refine g_iloadn K 2 rfl rfl 45 dX4_costOf_44 rfl ?_
        refine gm_ald K hK hcl 41 22 12 46 rfl dX4_costOf_45 rfl (fun v5 _ => ?_)
        exact gm_iret K hK hcl hr hlk dX4_costOf_46 rfl
/-- hears(II)I -/
def m_hears (μ : Mem) (x1 : Int32) (x2 : Int32) : Option (Int32 × Mem) :=
  nm (up2 μ 0 0 (nI 0)) fun μ1 =>
  (m_costOf μ1 x1 x2 true).bind fun r2 =>
  some (r2.1, r2.2)
theorem wd_hears : yX4_hears.cls = RX4 ∧ yX4_hears.cls ≠ "java/lang/invoke/MethodHandle" ∧ yX4_hears.cls ≠ "java/lang/invoke/VarHandle" ∧ (parseMethodDescriptor yX4_hears.desc).map (fun d => d.parameters.length) = some 2 := by decide +kernel
set_option maxRecDepth 100000 in
theorem ct_hears (μ : Mem) (x1 : Int32) (x2 : Int32) : CtM yX4_hears cX4_hears 3 (some .int) 5 114 [.int x1, .int x2] μ (fun r => (some (.int r.1), r.2)) (m_hears μ x1 x2) := by
  refine CtM.of (by decide) rfl (fun _ => Nat.le_of_ble_eq_true rfl) ?_
  intro l D cl ci cA am p e s m args below meth c hcl K hr hlk hK
  refine g_sub (ls' := [(0, .ref am), (1, .int x1), (2, .int x2)]) [0, 1, 2] rfl ?_
  unfold m_hears
  refine g_aloadn K 0 rfl rfl 1 dX4_hears_0 rfl ?_
  refine g_iconst K (nI 0) ic_0 2 dX4_hears_1 rfl ?_
  refine gm_put K hK hcl 0 (ty := .int) 5 (by decide) q1485 rfl (by decide +kernel) rfl rfl rfl dX4_hears_2 rfl (fun μ1 _ => ?_)
  refine g_aloadn K 0 rfl rfl 6 dX4_hears_5 rfl ?_
  refine g_iloadn K 1 rfl rfl 7 dX4_hears_6 rfl ?_
  refine g_iloadn K 2 rfl rfl 8 dX4_hears_7 rfl ?_
  refine g_iconst K (nI 1) ic_1 9 dX4_hears_8 rfl ?_
  refine gm_call K hK hcl 12 (ct_costOf μ1 x1 x2 true) (lw_V q2065 q2067 qs128 q158 q2068) wd_costOf (by decide) rfl (Nat.le_of_ble_eq_true rfl) dX4_hears_9 rfl (fun r2 _ => ?_)
  exact gm_iret K hK hcl hr hlk dX4_hears_12 rfl
/-- heard(II)I -/
def m_heard (μ : Mem) (x1 : Int32) (x2 : Int32) : Option (Int32 × Mem) :=
  nm (up2 μ 0 0 (nI 0)) fun μ1 =>
  (m_isHouse μ1 x1).bind fun r2 =>
  if (bI r2) = 0 then
  some ((-1 : Int32), μ1)
  else
  (m_isIn μ1 x2 (nI 0) (nI 800)).bind fun r3 =>
  if (bI r3) = 0 then
  some ((-1 : Int32), μ1)
  else
  (m_findsCosts μ1 x1 true).bind fun r4 =>
  lp (fun again6 (j5 : Int32 × Int32) =>
  if (r4 6 0) ≤ j5.2 then
  some (j5.1, r4)
  else
  if j5.2 = x1 then
  again6 (j5.1, (j5.2 + (nI 1)))
  else
  (rd r4 41 12 j5.2).bind fun v8 =>
  if x2 < v8 then
  again6 (j5.1, (j5.2 + (nI 1)))
  else
  again6 ((j5.1 + (nI 1)), (j5.2 + (nI 1)))) fuel ((nI 0), (nI 0))
theorem wd_heard : yX4_heard.cls = RX4 ∧ yX4_heard.cls ≠ "java/lang/invoke/MethodHandle" ∧ yX4_heard.cls ≠ "java/lang/invoke/VarHandle" ∧ (parseMethodDescriptor yX4_heard.desc).map (fun d => d.parameters.length) = some 2 := by decide +kernel
set_option maxRecDepth 100000 in
theorem ct_heard (μ : Mem) (x1 : Int32) (x2 : Int32) : CtM yX4_heard cX4_heard 5 (some .int) 4 91 [.int x1, .int x2] μ (fun r => (some (.int r.1), r.2)) (m_heard μ x1 x2) := by
  refine CtM.of (by decide) rfl (fun _ => Nat.le_of_ble_eq_true rfl) ?_
  intro l D cl ci cA am p e s m args below meth c hcl K hr hlk hK
  refine g_sub (ls' := [(0, .ref am), (1, .int x1), (2, .int x2)]) [0, 1, 2] rfl ?_
  unfold m_heard
  refine g_aloadn K 0 rfl rfl 1 dX4_heard_0 rfl ?_
  refine g_iconst K (nI 0) ic_0 2 dX4_heard_1 rfl ?_
  refine gm_put K hK hcl 0 (ty := .int) 5 (by decide) q1485 rfl (by decide +kernel) rfl rfl rfl dX4_heard_2 rfl (fun μ1 _ => ?_)
  refine g_aloadn K 0 rfl rfl 6 dX4_heard_5 rfl ?_
  refine g_iloadn K 1 rfl rfl 7 dX4_heard_6 rfl ?_
  refine gm_call K hK hcl 10 (ct_isHouse μ1 x1) (lw_V q1735 q1737 qs57 q158 q1738) wd_isHouse (by decide) rfl (Nat.le_of_ble_eq_true rfl) dX4_heard_7 rfl (fun r2 _ => ?_)
  refine g_if_eq K 13 25 dX4_heard_10 rfl (by decide) (fun _ => ?_) (fun _ => ?_)
  · refine g_iconst K (-1 : Int32) ic_m1 26 dX4_heard_25 rfl ?_
    exact gm_iret K hK hcl hr hlk dX4_heard_26 rfl
  · refine g_aloadn K 0 rfl rfl 14 dX4_heard_13 rfl ?_
    refine g_iloadn K 2 rfl rfl 15 dX4_heard_14 rfl ?_
    refine g_iconst K (nI 0) ic_0 16 dX4_heard_15 rfl ?_
    refine g_sipush K (nI 800) sp_800 19 dX4_heard_16 rfl ?_
    refine gm_call K hK hcl 22 (ct_isIn μ1 x2 (nI 0) (nI 800)) (lw_V q1723 q1725 qs55 q158 q1726) wd_isIn (by decide) rfl (Nat.le_of_ble_eq_true rfl) dX4_heard_19 rfl (fun r3 _ => ?_)
    refine g_if_ne K 25 27 dX4_heard_22 rfl (by decide) (fun _ => ?_) (fun _ => ?_)
    · refine g_iconst K (-1 : Int32) ic_m1 26 dX4_heard_25 rfl ?_
      exact gm_iret K hK hcl hr hlk dX4_heard_26 rfl
    · refine g_aloadn K 0 rfl rfl 28 dX4_heard_27 rfl ?_
      refine g_iloadn K 1 rfl rfl 29 dX4_heard_28 rfl ?_
      refine g_iconst K (nI 1) ic_1 30 dX4_heard_29 rfl ?_
      refine gm_call K hK hcl 33 (ct_findsCosts μ1 x1 true) (lw_V q2069 q2071 qs129 q158 q2072) wd_findsCosts (by decide) rfl (Nat.le_of_ble_eq_true rfl) dX4_heard_30 rfl (fun r4 _ => ?_)
      refine g_iconst K (nI 0) ic_0 34 dX4_heard_33 rfl ?_
      refine g_istoren K [(0, .ref am), (1, .int x1), (2, .int x2), (3, .int (nI 0))] [1, 2, 3, 0] rfl (by decide) rfl 35 dX4_heard_34 rfl ?_
      refine g_iconst K (nI 0) ic_0 36 dX4_heard_35 rfl ?_
      refine g_istore K [(0, .ref am), (1, .int x1), (2, .int x2), (3, .int (nI 0)), (4, .int (nI 0))] [1, 2, 3, 4, 0] (by decide) rfl 38 dX4_heard_36 rfl ?_
      refine g_lp (head := 38) (L := fun j5 => [(0, .ref am), (1, .int x1), (2, .int x2), (3, .int j5.1), (4, .int j5.2)]) (sf := fun j5 => []) (mf := fun j5 => r4) (fun again6 h7 j5 => ?_) fuel ((nI 0), (nI 0))
      try dsimp only
      refine g_iload K 4 rfl 40 dX4_heard_38 rfl ?_
      refine g_aloadn K 0 rfl rfl 41 dX4_heard_40 rfl ?_
      refine gm_get K hK hcl 6 44 (by decide) q1491 rfl dX4_heard_41 rfl ?_
      refine g_icmp_ge K 47 74 dX4_heard_44 rfl (by decide) (fun _ => ?_) (fun _ => ?_)
      · refine g_iloadn K 3 rfl rfl 75 dX4_heard_74 rfl ?_
        exact gm_iret K hK hcl hr hlk dX4_heard_75 rfl
      · refine g_iload K 4 rfl 49 dX4_heard_47 rfl ?_
        refine g_iloadn K 1 rfl rfl 50 dX4_heard_49 rfl ?_
        refine g_icmp_eq K 53 68 dX4_heard_50 rfl (by decide) (fun _ => ?_) (fun _ => ?_)
        · refine g_iinc K (j5.2 + (nI 1)) 4 [(0, .ref am), (1, .int x1), (2, .int x2), (3, .int j5.1), (4, .int (j5.2 + (nI 1)))] [1, 2, 3, 4, 0] rfl (by rw [ic_1]) (by decide) rfl 71 dX4_heard_68 rfl ?_
          refine g_goto K 38 dX4_heard_71 (by decide) ?_
          exact h7 (j5.1, (j5.2 + (nI 1)))
        · refine g_aloadn K 0 rfl rfl 54 dX4_heard_53 rfl ?_
          refine gm_get K hK hcl 41 57 (by decide) q1526 rfl dX4_heard_54 rfl ?_
          refine g_iload K 4 rfl 59 dX4_heard_57 rfl ?_
          refine gm_ald K hK hcl 41 22 12 60 rfl dX4_heard_59 rfl (fun v8 _ => ?_)
          refine g_iloadn K 2 rfl rfl 61 dX4_heard_60 rfl ?_
          refine g_icmp_gt K 64 68 dX4_heard_61 rfl (by decide) (fun _ => ?_) (fun _ => ?_)
          · refine g_iinc K (j5.2 + (nI 1)) 4 [(0, .ref am), (1, .int x1), (2, .int x2), (3, .int j5.1), (4, .int (j5.2 + (nI 1)))] [1, 2, 3, 4, 0] rfl (by rw [ic_1]) (by decide) rfl 71 dX4_heard_68 rfl ?_
            refine g_goto K 38 dX4_heard_71 (by decide) ?_
            exact h7 (j5.1, (j5.2 + (nI 1)))
          · refine g_iloadn K 3 rfl rfl 65 dX4_heard_64 rfl ?_
            refine g_iconst K (nI 1) ic_1 66 dX4_heard_65 rfl ?_
            refine g_iadd K 67 dX4_heard_66 rfl ?_
            refine g_istoren K [(0, .ref am), (1, .int x1), (2, .int x2), (3, .int (j5.1 + (nI 1))), (4, .int j5.2)] [1, 2, 3, 0, 4] rfl (by decide) rfl 68 dX4_heard_67 rfl ?_
            refine g_iinc K (j5.2 + (nI 1)) 4 [(0, .ref am), (1, .int x1), (2, .int x2), (3, .int (j5.1 + (nI 1))), (4, .int (j5.2 + (nI 1)))] [1, 2, 3, 4, 0] rfl (by rw [ic_1]) (by decide) rfl 71 dX4_heard_68 rfl ?_
            refine g_goto K 38 dX4_heard_71 (by decide) ?_
            exact h7 ((j5.1 + (nI 1)), (j5.2 + (nI 1)))
/-- ants(II)I -/
def m_ants (μ : Mem) (x1 : Int32) (x2 : Int32) : Option (Int32 × Mem) :=
  nm (up2 μ 0 0 (nI 0)) fun μ1 =>
  (m_costOf μ1 x1 x2 false).bind fun r2 =>
  some (r2.1, r2.2)
theorem wd_ants : yX4_ants.cls = RX4 ∧ yX4_ants.cls ≠ "java/lang/invoke/MethodHandle" ∧ yX4_ants.cls ≠ "java/lang/invoke/VarHandle" ∧ (parseMethodDescriptor yX4_ants.desc).map (fun d => d.parameters.length) = some 2 := by decide +kernel
set_option maxRecDepth 100000 in
theorem ct_ants (μ : Mem) (x1 : Int32) (x2 : Int32) : CtM yX4_ants cX4_ants 3 (some .int) 5 114 [.int x1, .int x2] μ (fun r => (some (.int r.1), r.2)) (m_ants μ x1 x2) := by
  refine CtM.of (by decide) rfl (fun _ => Nat.le_of_ble_eq_true rfl) ?_
  intro l D cl ci cA am p e s m args below meth c hcl K hr hlk hK
  refine g_sub (ls' := [(0, .ref am), (1, .int x1), (2, .int x2)]) [0, 1, 2] rfl ?_
  unfold m_ants
  refine g_aloadn K 0 rfl rfl 1 dX4_ants_0 rfl ?_
  refine g_iconst K (nI 0) ic_0 2 dX4_ants_1 rfl ?_
  refine gm_put K hK hcl 0 (ty := .int) 5 (by decide) q1485 rfl (by decide +kernel) rfl rfl rfl dX4_ants_2 rfl (fun μ1 _ => ?_)
  refine g_aloadn K 0 rfl rfl 6 dX4_ants_5 rfl ?_
  refine g_iloadn K 1 rfl rfl 7 dX4_ants_6 rfl ?_
  refine g_iloadn K 2 rfl rfl 8 dX4_ants_7 rfl ?_
  refine g_iconst K (nI 0) ic_0 9 dX4_ants_8 rfl ?_
  refine gm_call K hK hcl 12 (ct_costOf μ1 x1 x2 false) (lw_V q2065 q2067 qs128 q158 q2068) wd_costOf (by decide) rfl (Nat.le_of_ble_eq_true rfl) dX4_ants_9 rfl (fun r2 _ => ?_)
  exact gm_iret K hK hcl hr hlk dX4_ants_12 rfl
/-- piece(I)I -/
def m_piece (μ : Mem) (x1 : Int32) : Option (Int32 × Mem) :=
  nm (up2 μ 0 0 (nI 0)) fun μ1 =>
  if x1 = (-1 : Int32) then
  nm (up2 μ1 42 0 (nI 0)) fun μ5 =>
  some ((nI 0), μ5)
  else
  (m_isIn μ1 x1 (nI 0) (nI 99)).bind fun r2 =>
  if (bI r2) = 0 then
  some ((-1 : Int32), μ1)
  else
  if (μ1 42 0) = (nI 9) then
  some ((-1 : Int32), μ1)
  else
  (wr μ1 43 9 (μ1 42 0) x1).bind fun μ3 =>
  nm (up2 μ3 42 0 ((μ3 42 0) + (nI 1))) fun μ4 =>
  some ((μ4 42 0), μ4)
theorem wd_piece : yX4_piece.cls = RX4 ∧ yX4_piece.cls ≠ "java/lang/invoke/MethodHandle" ∧ yX4_piece.cls ≠ "java/lang/invoke/VarHandle" ∧ (parseMethodDescriptor yX4_piece.desc).map (fun d => d.parameters.length) = some 1 := by decide +kernel
set_option maxRecDepth 100000 in
theorem ct_piece (μ : Mem) (x1 : Int32) : CtM yX4_piece cX4_piece 2 (some .int) 1 23 [.int x1] μ (fun r => (some (.int r.1), r.2)) (m_piece μ x1) := by
  refine CtM.of (by decide) rfl (fun _ => Nat.le_of_ble_eq_true rfl) ?_
  intro l D cl ci cA am p e s m args below meth c hcl K hr hlk hK
  refine g_sub (ls' := [(0, .ref am), (1, .int x1)]) [0, 1] rfl ?_
  unfold m_piece
  refine g_aloadn K 0 rfl rfl 1 dX4_piece_0 rfl ?_
  refine g_iconst K (nI 0) ic_0 2 dX4_piece_1 rfl ?_
  refine gm_put K hK hcl 0 (ty := .int) 5 (by decide) q1485 rfl (by decide +kernel) rfl rfl rfl dX4_piece_2 rfl (fun μ1 _ => ?_)
  refine g_iloadn K 1 rfl rfl 6 dX4_piece_5 rfl ?_
  refine g_iconst K (-1 : Int32) ic_m1 7 dX4_piece_6 rfl ?_
  refine g_icmp_ne K 10 17 dX4_piece_7 rfl (by decide) (fun _ => ?_) (fun _ => ?_)
  · refine g_aloadn K 0 rfl rfl 11 dX4_piece_10 rfl ?_
    refine g_iconst K (nI 0) ic_0 12 dX4_piece_11 rfl ?_
    refine gm_put K hK hcl 42 (ty := .int) 15 (by decide) q1527 rfl (by decide +kernel) rfl rfl rfl dX4_piece_12 rfl (fun μ5 _ => ?_)
    refine g_iconst K (nI 0) ic_0 16 dX4_piece_15 rfl ?_
    exact gm_iret K hK hcl hr hlk dX4_piece_16 rfl
  · refine g_aloadn K 0 rfl rfl 18 dX4_piece_17 rfl ?_
    refine g_iloadn K 1 rfl rfl 19 dX4_piece_18 rfl ?_
    refine g_iconst K (nI 0) ic_0 20 dX4_piece_19 rfl ?_
    refine g_bipush K (nI 99) bp_99 22 dX4_piece_20 rfl ?_
    refine gm_call K hK hcl 25 (ct_isIn μ1 x1 (nI 0) (nI 99)) (lw_V q1723 q1725 qs55 q158 q1726) wd_isIn (by decide) rfl (Nat.le_of_ble_eq_true rfl) dX4_piece_22 rfl (fun r2 _ => ?_)
    refine g_if_eq K 28 37 dX4_piece_25 rfl (by decide) (fun _ => ?_) (fun _ => ?_)
    · refine g_iconst K (-1 : Int32) ic_m1 38 dX4_piece_37 rfl ?_
      exact gm_iret K hK hcl hr hlk dX4_piece_38 rfl
    · refine g_aloadn K 0 rfl rfl 29 dX4_piece_28 rfl ?_
      refine gm_get K hK hcl 42 32 (by decide) q1527 rfl dX4_piece_29 rfl ?_
      refine g_bipush K (nI 9) bp_9 34 dX4_piece_32 rfl ?_
      refine g_icmp_ne K 37 39 dX4_piece_34 rfl (by decide) (fun _ => ?_) (fun _ => ?_)
      · refine g_iconst K (-1 : Int32) ic_m1 38 dX4_piece_37 rfl ?_
        exact gm_iret K hK hcl hr hlk dX4_piece_38 rfl
      · refine g_aloadn K 0 rfl rfl 40 dX4_piece_39 rfl ?_
        refine gm_get K hK hcl 43 43 (by decide) q1528 rfl dX4_piece_40 rfl ?_
        refine g_aloadn K 0 rfl rfl 44 dX4_piece_43 rfl ?_
        refine gm_get K hK hcl 42 47 (by decide) q1527 rfl dX4_piece_44 rfl ?_
        refine g_iloadn K 1 rfl rfl 48 dX4_piece_47 rfl ?_
        refine gm_ast K hK hcl 43 23 9 49 rfl (fun _ => rfl) dX4_piece_48 rfl (fun μ3 _ => ?_)
        refine g_aloadn K 0 rfl rfl 50 dX4_piece_49 rfl ?_
        refine g_aloadn K 0 rfl rfl 51 dX4_piece_50 rfl ?_
        refine gm_get K hK hcl 42 54 (by decide) q1527 rfl dX4_piece_51 rfl ?_
        refine g_iconst K (nI 1) ic_1 55 dX4_piece_54 rfl ?_
        refine g_iadd K 56 dX4_piece_55 rfl ?_
        refine gm_put K hK hcl 42 (ty := .int) 59 (by decide) q1527 rfl (by decide +kernel) rfl rfl rfl dX4_piece_56 rfl (fun μ4 _ => ?_)
        refine g_aloadn K 0 rfl rfl 60 dX4_piece_59 rfl ?_
        refine gm_get K hK hcl 42 63 (by decide) q1527 rfl dX4_piece_60 rfl ?_
        exact gm_iret K hK hcl hr hlk dX4_piece_63 rfl
/-- piecesOver(II)I -/
def m_piecesOver (μ : Mem) (x1 : Int32) (x2 : Int32) : Option (Int32) :=
  lp (fun again2 (j1 : Int32 × Int32) =>
  if x2 ≤ j1.2 then
  some j1.1
  else
  (rd μ 43 9 j1.2).bind fun v4 =>
  again2 ((j1.1 + v4), (j1.2 + (nI 1)))) fuel ((nI 0), x1)
theorem wd_piecesOver : yX4_piecesOver.cls = RX4 ∧ yX4_piecesOver.cls ≠ "java/lang/invoke/MethodHandle" ∧ yX4_piecesOver.cls ≠ "java/lang/invoke/VarHandle" ∧ (parseMethodDescriptor yX4_piecesOver.desc).map (fun d => d.parameters.length) = some 2 := by decide +kernel
set_option maxRecDepth 100000 in
theorem ct_piecesOver (μ : Mem) (x1 : Int32) (x2 : Int32) : CtM yX4_piecesOver cX4_piecesOver 5 (some .int) 0 0 [.int x1, .int x2] μ (fun r => (some (.int r), μ)) (m_piecesOver μ x1 x2) := by
  refine CtM.of (by decide) rfl (fun _ => Nat.le_of_ble_eq_true rfl) ?_
  intro l D cl ci cA am p e s m args below meth c hcl K hr hlk hK
  refine g_sub (ls' := [(0, .ref am), (1, .int x1), (2, .int x2)]) [0, 1, 2] rfl ?_
  unfold m_piecesOver
  refine g_iconst K (nI 0) ic_0 1 dX4_piecesOver_0 rfl ?_
  refine g_istoren K [(0, .ref am), (1, .int x1), (2, .int x2), (3, .int (nI 0))] [1, 2, 3, 0] rfl (by decide) rfl 2 dX4_piecesOver_1 rfl ?_
  refine g_iloadn K 1 rfl rfl 3 dX4_piecesOver_2 rfl ?_
  refine g_istore K [(0, .ref am), (2, .int x2), (3, .int (nI 0)), (4, .int x1)] [1, 3, 4, 0] (by decide) rfl 5 dX4_piecesOver_3 rfl ?_
  refine g_lp (head := 5) (L := fun j1 => [(0, .ref am), (2, .int x2), (3, .int j1.1), (4, .int j1.2)]) (sf := fun j1 => []) (mf := fun j1 => μ) (fun again2 h3 j1 => ?_) fuel ((nI 0), x1)
  try dsimp only
  refine g_iload K 3 rfl 7 dX4_piecesOver_5 rfl ?_
  refine g_iloadn K 1 rfl rfl 8 dX4_piecesOver_7 rfl ?_
  refine g_icmp_ge K 11 27 dX4_piecesOver_8 rfl (by decide) (fun _ => ?_) (fun _ => ?_)
  · refine g_iloadn K 2 rfl rfl 28 dX4_piecesOver_27 rfl ?_
    exact gm_iret K hK hcl hr hlk dX4_piecesOver_28 rfl
  · refine g_iloadn K 2 rfl rfl 12 dX4_piecesOver_11 rfl ?_
    refine g_aloadn K 0 rfl rfl 13 dX4_piecesOver_12 rfl ?_
    refine gm_get K hK hcl 43 16 (by decide) q1528 rfl dX4_piecesOver_13 rfl ?_
    refine g_iload K 3 rfl 18 dX4_piecesOver_16 rfl ?_
    refine gm_ald K hK hcl 43 23 9 19 rfl dX4_piecesOver_18 rfl (fun v4 _ => ?_)
    refine g_iadd K 20 dX4_piecesOver_19 rfl ?_
    refine g_istoren K [(0, .ref am), (2, .int x2), (3, .int (j1.1 + v4)), (4, .int j1.2)] [1, 2, 0, 3] rfl (by decide) rfl 21 dX4_piecesOver_20 rfl ?_
    refine g_iinc K (j1.2 + (nI 1)) 3 [(0, .ref am), (2, .int x2), (3, .int (j1.1 + v4)), (4, .int (j1.2 + (nI 1)))] [1, 2, 3, 0] rfl (by rw [ic_1]) (by decide) rfl 24 dX4_piecesOver_21 rfl ?_
    refine g_goto K 5 dX4_piecesOver_24 (by decide) ?_
    exact h3 ((j1.1 + v4), (j1.2 + (nI 1)))
/-- findsShares()V -/
def m_findsShares (μ : Mem) : Option (Mem) :=
  lp (fun again2 (j1 : Int32 × Mem) =>
  if (nI 10) ≤ j1.1 then
  some j1.2
  else
  lp (fun again5 (j4 : Int32 × Mem) =>
  if (j4.2 42 0) < j4.1 then
  again2 ((j1.1 + (nI 1)), j4.2)
  else
  jn (fun (j7 : Int32) =>
  jn (fun (j10 : Int32) =>
  (wr j4.2 44 100 (((nI 10) * j1.1) + j4.1) j10).bind fun μ13 =>
  again5 ((j4.1 + (nI 1)), μ13)) (fun k11 =>
  lp (fun again15 (j14 : Int32 × Int32) =>
  if (j4.2 42 0) < j14.2 then
  k11 j14.1
  else
  if j1.1 ≤ 0 then
  k11 j14.1
  else
  (m_piecesOver j4.2 j4.1 j14.2).bind fun r17 =>
  (rd j4.2 44 100 (((nI 10) * (j1.1 - (nI 1))) + j14.2)).bind fun v18 =>
  (m_lesser j4.2 r17 v18).bind fun r19 =>
  (m_greater j4.2 j14.1 r19).bind fun r20 =>
  again15 (r20, (j14.2 + (nI 1)))) fuel (j7, (j4.1 + (nI 1))))) (fun k8 =>
  if j1.1 = 0 then
  if j4.1 = (j4.2 42 0) then
  k8 (100000000 : Int32)
  else
  k8 (-1 : Int32)
  else
  k8 (-1 : Int32))) fuel ((nI 0), j1.2)) fuel ((nI 0), μ)
theorem wd_findsShares : yX4_findsShares.cls = RX4 ∧ yX4_findsShares.cls ≠ "java/lang/invoke/MethodHandle" ∧ yX4_findsShares.cls ≠ "java/lang/invoke/VarHandle" ∧ (parseMethodDescriptor yX4_findsShares.desc).map (fun d => d.parameters.length) = some 0 := by decide +kernel
set_option maxRecDepth 100000 in
theorem ct_findsShares (μ : Mem) : CtM yX4_findsShares cX4_findsShares 5 none 1 24 [] μ (fun r => (none, r)) (m_findsShares μ) := by
  refine CtM.of (by decide) rfl (fun _ => Nat.le_of_ble_eq_true rfl) ?_
  intro l D cl ci cA am p e s m args below meth c hcl K hr hlk hK
  refine g_sub (ls' := [(0, .ref am)]) [0] rfl ?_
  unfold m_findsShares
  refine g_iconst K (nI 0) ic_0 1 dX4_findsShares_0 rfl ?_
  refine g_istoren K [(0, .ref am), (1, .int (nI 0))] [1, 0] rfl (by decide) rfl 2 dX4_findsShares_1 rfl ?_
  refine g_lp (head := 2) (L := fun j1 => [(0, .ref am), (1, .int j1.1)]) (sf := fun j1 => []) (mf := fun j1 => j1.2) (fun again2 h3 j1 => ?_) fuel ((nI 0), μ)
  try dsimp only
  refine g_iloadn K 1 rfl rfl 3 dX4_findsShares_2 rfl ?_
  refine g_bipush K (nI 10) bp_10 5 dX4_findsShares_3 rfl ?_
  refine g_icmp_ge K 8 117 dX4_findsShares_5 rfl (by decide) (fun _ => ?_) (fun _ => ?_)
  · exact gm_vret K hK hcl hr hlk dX4_findsShares_117 rfl
  · refine g_iconst K (nI 0) ic_0 9 dX4_findsShares_8 rfl ?_
    refine g_istoren K [(0, .ref am), (1, .int j1.1), (2, .int (nI 0))] [1, 2, 0] rfl (by decide) rfl 10 dX4_findsShares_9 rfl ?_
    refine g_lp (head := 10) (L := fun j4 => [(0, .ref am), (1, .int j1.1), (2, .int j4.1)]) (sf := fun j4 => []) (mf := fun j4 => j4.2) (fun again5 h6 j4 => ?_) fuel ((nI 0), j1.2)
    try dsimp only
    refine g_iloadn K 2 rfl rfl 11 dX4_findsShares_10 rfl ?_
    refine g_aloadn K 0 rfl rfl 12 dX4_findsShares_11 rfl ?_
    refine gm_get K hK hcl 42 15 (by decide) q1527 rfl dX4_findsShares_12 rfl ?_
    refine g_icmp_gt K 18 111 dX4_findsShares_15 rfl (by decide) (fun _ => ?_) (fun _ => ?_)
    · refine g_iinc K (j1.1 + (nI 1)) 1 [(0, .ref am), (1, .int (j1.1 + (nI 1)))] [1, 0] rfl (by rw [ic_1]) (by decide) rfl 114 dX4_findsShares_111 rfl ?_
      refine g_goto K 2 dX4_findsShares_114 (by decide) ?_
      exact h3 ((j1.1 + (nI 1)), j4.2)
    · refine g_iloadn K 1 rfl rfl 19 dX4_findsShares_18 rfl ?_
      refine g_jn (head := 37) (L := fun j7 => [(0, .ref am), (1, .int j1.1), (2, .int j4.1)]) (sf := fun j7 => [.int j7]) (mf := fun j7 => j4.2) (fun j7 => ?_) (fun k8 h9 => ?_)
      · try dsimp only
        refine g_istoren K [(0, .ref am), (1, .int j1.1), (2, .int j4.1), (3, .int j7)] [1, 2, 3, 0] rfl (by decide) rfl 38 dX4_findsShares_37 rfl ?_
        refine g_iloadn K 2 rfl rfl 39 dX4_findsShares_38 rfl ?_
        refine g_iconst K (nI 1) ic_1 40 dX4_findsShares_39 rfl ?_
        refine g_iadd K 41 dX4_findsShares_40 rfl ?_
        refine g_istore K [(0, .ref am), (1, .int j1.1), (2, .int j4.1), (3, .int j7), (4, .int (j4.1 + (nI 1)))] [1, 2, 3, 4, 0] (by decide) rfl 43 dX4_findsShares_41 rfl ?_
        refine g_jn (head := 93) (L := fun j10 => [(0, .ref am), (1, .int j1.1), (2, .int j4.1), (3, .int j10)]) (sf := fun j10 => []) (mf := fun j10 => j4.2) (fun j10 => ?_) (fun k11 h12 => ?_)
        · try dsimp only
          refine g_aloadn K 0 rfl rfl 94 dX4_findsShares_93 rfl ?_
          refine gm_get K hK hcl 44 97 (by decide) q1529 rfl dX4_findsShares_94 rfl ?_
          refine g_bipush K (nI 10) bp_10 99 dX4_findsShares_97 rfl ?_
          refine g_iloadn K 1 rfl rfl 100 dX4_findsShares_99 rfl ?_
          refine g_imul K 101 dX4_findsShares_100 rfl ?_
          refine g_iloadn K 2 rfl rfl 102 dX4_findsShares_101 rfl ?_
          refine g_iadd K 103 dX4_findsShares_102 rfl ?_
          refine g_iloadn K 3 rfl rfl 104 dX4_findsShares_103 rfl ?_
          refine gm_ast K hK hcl 44 24 100 105 rfl (fun _ => rfl) dX4_findsShares_104 rfl (fun μ13 _ => ?_)
          refine g_iinc K (j4.1 + (nI 1)) 2 [(0, .ref am), (1, .int j1.1), (2, .int (j4.1 + (nI 1)))] [1, 2, 0] rfl (by rw [ic_1]) (by decide) rfl 108 dX4_findsShares_105 rfl ?_
          refine g_goto K 10 dX4_findsShares_108 (by decide) ?_
          exact h6 ((j4.1 + (nI 1)), μ13)
        · refine g_lp (head := 43) (L := fun j14 => [(0, .ref am), (1, .int j1.1), (2, .int j4.1), (3, .int j14.1), (4, .int j14.2)]) (sf := fun j14 => []) (mf := fun j14 => j4.2) (fun again15 h16 j14 => ?_) fuel (j7, (j4.1 + (nI 1)))
          try dsimp only
          refine g_iload K 4 rfl 45 dX4_findsShares_43 rfl ?_
          refine g_aloadn K 0 rfl rfl 46 dX4_findsShares_45 rfl ?_
          refine gm_get K hK hcl 42 49 (by decide) q1527 rfl dX4_findsShares_46 rfl ?_
          refine g_icmp_gt K 52 93 dX4_findsShares_49 rfl (by decide) (fun _ => ?_) (fun _ => ?_)
          · refine g_sub (ls' := [(0, .ref am), (1, .int j1.1), (2, .int j4.1), (3, .int j14.1)]) [0, 1, 2, 3] rfl ?_
            exact h12 j14.1
          · refine g_iloadn K 1 rfl rfl 53 dX4_findsShares_52 rfl ?_
            refine g_if_le K 56 93 dX4_findsShares_53 rfl (by decide) (fun _ => ?_) (fun _ => ?_)
            · refine g_sub (ls' := [(0, .ref am), (1, .int j1.1), (2, .int j4.1), (3, .int j14.1)]) [0, 1, 2, 3] rfl ?_
              exact h12 j14.1
            · refine g_aloadn K 0 rfl rfl 57 dX4_findsShares_56 rfl ?_
              refine g_iloadn K 3 rfl rfl 58 dX4_findsShares_57 rfl ?_
              refine g_aloadn K 0 rfl rfl 59 dX4_findsShares_58 rfl ?_
              refine g_aloadn K 0 rfl rfl 60 dX4_findsShares_59 rfl ?_
              refine g_iloadn K 2 rfl rfl 61 dX4_findsShares_60 rfl ?_
              refine g_iload K 4 rfl 63 dX4_findsShares_61 rfl ?_
              refine gm_call K hK hcl 66 (ct_piecesOver j4.2 j4.1 j14.2) (lw_V q2098 q2100 qs132 q158 q2101) wd_piecesOver (by decide) rfl (Nat.le_of_ble_eq_true rfl) dX4_findsShares_63 rfl (fun r17 _ => ?_)
              refine g_aloadn K 0 rfl rfl 67 dX4_findsShares_66 rfl ?_
              refine gm_get K hK hcl 44 70 (by decide) q1529 rfl dX4_findsShares_67 rfl ?_
              refine g_bipush K (nI 10) bp_10 72 dX4_findsShares_70 rfl ?_
              refine g_iloadn K 1 rfl rfl 73 dX4_findsShares_72 rfl ?_
              refine g_iconst K (nI 1) ic_1 74 dX4_findsShares_73 rfl ?_
              refine g_isub K 75 dX4_findsShares_74 rfl ?_
              refine g_imul K 76 dX4_findsShares_75 rfl ?_
              refine g_iload K 4 rfl 78 dX4_findsShares_76 rfl ?_
              refine g_iadd K 79 dX4_findsShares_78 rfl ?_
              refine gm_ald K hK hcl 44 24 100 80 rfl dX4_findsShares_79 rfl (fun v18 _ => ?_)
              refine gm_call K hK hcl 83 (ct_lesser j4.2 r17 v18) (lw_V q2025 q2027 qs123 q158 q2028) wd_lesser (by decide) rfl (Nat.le_of_ble_eq_true rfl) dX4_findsShares_80 rfl (fun r19 _ => ?_)
              refine gm_call K hK hcl 86 (ct_greater j4.2 j14.1 r19) (lw_V q1967 q1969 qs109 q158 q1970) wd_greater (by decide) rfl (Nat.le_of_ble_eq_true rfl) dX4_findsShares_83 rfl (fun r20 _ => ?_)
              refine g_istoren K [(0, .ref am), (1, .int j1.1), (2, .int j4.1), (3, .int r20), (4, .int j14.2)] [1, 2, 3, 0, 4] rfl (by decide) rfl 87 dX4_findsShares_86 rfl ?_
              refine g_iinc K (j14.2 + (nI 1)) 4 [(0, .ref am), (1, .int j1.1), (2, .int j4.1), (3, .int r20), (4, .int (j14.2 + (nI 1)))] [1, 2, 3, 4, 0] rfl (by rw [ic_1]) (by decide) rfl 90 dX4_findsShares_87 rfl ?_
              refine g_goto K 43 dX4_findsShares_90 (by decide) ?_
              exact h16 (r20, (j14.2 + (nI 1)))
      · refine g_if_ne K 22 36 dX4_findsShares_19 rfl (by decide) (fun _ => ?_) (fun _ => ?_)
        · refine g_iloadn K 2 rfl rfl 23 dX4_findsShares_22 rfl ?_
          refine g_aloadn K 0 rfl rfl 24 dX4_findsShares_23 rfl ?_
          refine gm_get K hK hcl 42 27 (by decide) q1527 rfl dX4_findsShares_24 rfl ?_
          refine g_icmp_ne K 30 36 dX4_findsShares_27 rfl (by decide) (fun _ => ?_) (fun _ => ?_)
          · refine g_ldcw K q2073 33 dX4_findsShares_30 rfl ?_
            refine g_goto K 37 dX4_findsShares_33 (by decide) ?_
            exact h9 (100000000 : Int32)
          · refine g_iconst K (-1 : Int32) ic_m1 37 dX4_findsShares_36 rfl ?_
            exact h9 (-1 : Int32)
        · refine g_iconst K (-1 : Int32) ic_m1 37 dX4_findsShares_36 rfl ?_
          exact h9 (-1 : Int32)
/-- plate(II)I -/
def m_plate (μ : Mem) (x1 : Int32) (x2 : Int32) : Option (Int32 × Mem) :=
  nm (up2 μ 0 0 (nI 0)) fun μ1 =>
  (m_isIn μ1 x1 (nI 1) (μ1 42 0)).bind fun r2 =>
  if (bI r2) = 0 then
  some ((-1 : Int32), μ1)
  else
  (m_isIn μ1 x2 (nI 0) (nI 1)).bind fun r3 =>
  if (bI r3) = 0 then
  some ((-1 : Int32), μ1)
  else
  (m_findsShares μ1).bind fun r4 =>
  (rd r4 44 100 ((nI 10) * x1)).bind fun v5 =>
  if x2 = 0 then
  some (v5, r4)
  else
  lp (fun again7 (j6 : Int32) =>
  if (r4 42 0) ≤ j6 then
  some ((-1 : Int32), r4)
  else
  if x1 ≤ (nI 1) then
  some ((-1 : Int32), r4)
  else
  (m_piecesOver r4 (nI 0) j6).bind fun r9 =>
  (rd r4 44 100 (((nI 10) * (x1 - (nI 1))) + j6)).bind fun v10 =>
  (m_lesser r4 r9 v10).bind fun r11 =>
  if r11 = v5 then
  some (j6, r4)
  else
  again7 (j6 + (nI 1))) fuel (nI 1)
theorem wd_plate : yX4_plate.cls = RX4 ∧ yX4_plate.cls ≠ "java/lang/invoke/MethodHandle" ∧ yX4_plate.cls ≠ "java/lang/invoke/VarHandle" ∧ (parseMethodDescriptor yX4_plate.desc).map (fun d => d.parameters.length) = some 2 := by decide +kernel
set_option maxRecDepth 100000 in
theorem ct_plate (μ : Mem) (x1 : Int32) (x2 : Int32) : CtM yX4_plate cX4_plate 5 (some .int) 2 48 [.int x1, .int x2] μ (fun r => (some (.int r.1), r.2)) (m_plate μ x1 x2) := by
  refine CtM.of (by decide) rfl (fun _ => Nat.le_of_ble_eq_true rfl) ?_
  intro l D cl ci cA am p e s m args below meth c hcl K hr hlk hK
  refine g_sub (ls' := [(0, .ref am), (1, .int x1), (2, .int x2)]) [0, 1, 2] rfl ?_
  unfold m_plate
  refine g_aloadn K 0 rfl rfl 1 dX4_plate_0 rfl ?_
  refine g_iconst K (nI 0) ic_0 2 dX4_plate_1 rfl ?_
  refine gm_put K hK hcl 0 (ty := .int) 5 (by decide) q1485 rfl (by decide +kernel) rfl rfl rfl dX4_plate_2 rfl (fun μ1 _ => ?_)
  refine g_aloadn K 0 rfl rfl 6 dX4_plate_5 rfl ?_
  refine g_iloadn K 1 rfl rfl 7 dX4_plate_6 rfl ?_
  refine g_iconst K (nI 1) ic_1 8 dX4_plate_7 rfl ?_
  refine g_aloadn K 0 rfl rfl 9 dX4_plate_8 rfl ?_
  refine gm_get K hK hcl 42 12 (by decide) q1527 rfl dX4_plate_9 rfl ?_
  refine gm_call K hK hcl 15 (ct_isIn μ1 x1 (nI 1) (μ1 42 0)) (lw_V q1723 q1725 qs55 q158 q1726) wd_isIn (by decide) rfl (Nat.le_of_ble_eq_true rfl) dX4_plate_12 rfl (fun r2 _ => ?_)
  refine g_if_eq K 18 28 dX4_plate_15 rfl (by decide) (fun _ => ?_) (fun _ => ?_)
  · refine g_iconst K (-1 : Int32) ic_m1 29 dX4_plate_28 rfl ?_
    exact gm_iret K hK hcl hr hlk dX4_plate_29 rfl
  · refine g_aloadn K 0 rfl rfl 19 dX4_plate_18 rfl ?_
    refine g_iloadn K 2 rfl rfl 20 dX4_plate_19 rfl ?_
    refine g_iconst K (nI 0) ic_0 21 dX4_plate_20 rfl ?_
    refine g_iconst K (nI 1) ic_1 22 dX4_plate_21 rfl ?_
    refine gm_call K hK hcl 25 (ct_isIn μ1 x2 (nI 0) (nI 1)) (lw_V q1723 q1725 qs55 q158 q1726) wd_isIn (by decide) rfl (Nat.le_of_ble_eq_true rfl) dX4_plate_22 rfl (fun r3 _ => ?_)
    refine g_if_ne K 28 30 dX4_plate_25 rfl (by decide) (fun _ => ?_) (fun _ => ?_)
    · refine g_iconst K (-1 : Int32) ic_m1 29 dX4_plate_28 rfl ?_
      exact gm_iret K hK hcl hr hlk dX4_plate_29 rfl
    · refine g_aloadn K 0 rfl rfl 31 dX4_plate_30 rfl ?_
      refine gm_call K hK hcl 34 (ct_findsShares μ1) (lw_V q2094 q2096 qs131 q158 q2097) wd_findsShares (by decide) rfl (Nat.le_of_ble_eq_true rfl) dX4_plate_31 rfl (fun r4 _ => ?_)
      refine g_aloadn K 0 rfl rfl 35 dX4_plate_34 rfl ?_
      refine gm_get K hK hcl 44 38 (by decide) q1529 rfl dX4_plate_35 rfl ?_
      refine g_bipush K (nI 10) bp_10 40 dX4_plate_38 rfl ?_
      refine g_iloadn K 1 rfl rfl 41 dX4_plate_40 rfl ?_
      refine g_imul K 42 dX4_plate_41 rfl ?_
      refine gm_ald K hK hcl 44 24 100 43 rfl dX4_plate_42 rfl (fun v5 _ => ?_)
      refine g_istoren K [(0, .ref am), (1, .int x1), (2, .int x2), (3, .int v5)] [1, 2, 3, 0] rfl (by decide) rfl 44 dX4_plate_43 rfl ?_
      refine g_iloadn K 2 rfl rfl 45 dX4_plate_44 rfl ?_
      refine g_if_ne K 48 50 dX4_plate_45 rfl (by decide) (fun _ => ?_) (fun _ => ?_)
      · refine g_iloadn K 3 rfl rfl 49 dX4_plate_48 rfl ?_
        exact gm_iret K hK hcl hr hlk dX4_plate_49 rfl
      · refine g_iconst K (nI 1) ic_1 51 dX4_plate_50 rfl ?_
        refine g_istore K [(0, .ref am), (1, .int x1), (3, .int v5), (4, .int (nI 1))] [1, 2, 4, 0] (by decide) rfl 53 dX4_plate_51 rfl ?_
        refine g_lp (head := 53) (L := fun j6 => [(0, .ref am), (1, .int x1), (3, .int v5), (4, .int j6)]) (sf := fun j6 => []) (mf := fun j6 => r4) (fun again7 h8 j6 => ?_) fuel (nI 1)
        try dsimp only
        refine g_iload K 3 rfl 55 dX4_plate_53 rfl ?_
        refine g_aloadn K 0 rfl rfl 56 dX4_plate_55 rfl ?_
        refine gm_get K hK hcl 42 59 (by decide) q1527 rfl dX4_plate_56 rfl ?_
        refine g_icmp_ge K 62 105 dX4_plate_59 rfl (by decide) (fun _ => ?_) (fun _ => ?_)
        · refine g_iconst K (-1 : Int32) ic_m1 106 dX4_plate_105 rfl ?_
          exact gm_iret K hK hcl hr hlk dX4_plate_106 rfl
        · refine g_iloadn K 1 rfl rfl 63 dX4_plate_62 rfl ?_
          refine g_iconst K (nI 1) ic_1 64 dX4_plate_63 rfl ?_
          refine g_icmp_le K 67 105 dX4_plate_64 rfl (by decide) (fun _ => ?_) (fun _ => ?_)
          · refine g_iconst K (-1 : Int32) ic_m1 106 dX4_plate_105 rfl ?_
            exact gm_iret K hK hcl hr hlk dX4_plate_106 rfl
          · refine g_aloadn K 0 rfl rfl 68 dX4_plate_67 rfl ?_
            refine g_aloadn K 0 rfl rfl 69 dX4_plate_68 rfl ?_
            refine g_iconst K (nI 0) ic_0 70 dX4_plate_69 rfl ?_
            refine g_iload K 3 rfl 72 dX4_plate_70 rfl ?_
            refine gm_call K hK hcl 75 (ct_piecesOver r4 (nI 0) j6) (lw_V q2098 q2100 qs132 q158 q2101) wd_piecesOver (by decide) rfl (Nat.le_of_ble_eq_true rfl) dX4_plate_72 rfl (fun r9 _ => ?_)
            refine g_aloadn K 0 rfl rfl 76 dX4_plate_75 rfl ?_
            refine gm_get K hK hcl 44 79 (by decide) q1529 rfl dX4_plate_76 rfl ?_
            refine g_bipush K (nI 10) bp_10 81 dX4_plate_79 rfl ?_
            refine g_iloadn K 1 rfl rfl 82 dX4_plate_81 rfl ?_
            refine g_iconst K (nI 1) ic_1 83 dX4_plate_82 rfl ?_
            refine g_isub K 84 dX4_plate_83 rfl ?_
            refine g_imul K 85 dX4_plate_84 rfl ?_
            refine g_iload K 3 rfl 87 dX4_plate_85 rfl ?_
            refine g_iadd K 88 dX4_plate_87 rfl ?_
            refine gm_ald K hK hcl 44 24 100 89 rfl dX4_plate_88 rfl (fun v10 _ => ?_)
            refine gm_call K hK hcl 92 (ct_lesser r4 r9 v10) (lw_V q2025 q2027 qs123 q158 q2028) wd_lesser (by decide) rfl (Nat.le_of_ble_eq_true rfl) dX4_plate_89 rfl (fun r11 _ => ?_)
            refine g_iloadn K 2 rfl rfl 93 dX4_plate_92 rfl ?_
            refine g_icmp_ne K 96 99 dX4_plate_93 rfl (by decide) (fun _ => ?_) (fun _ => ?_)
            · refine g_iload K 3 rfl 98 dX4_plate_96 rfl ?_
              exact gm_iret K hK hcl hr hlk dX4_plate_98 rfl
            · refine g_iinc K (j6 + (nI 1)) 3 [(0, .ref am), (1, .int x1), (3, .int v5), (4, .int (j6 + (nI 1)))] [1, 2, 3, 0] rfl (by rw [ic_1]) (by decide) rfl 102 dX4_plate_99 rfl ?_
              refine g_goto K 53 dX4_plate_102 (by decide) ?_
              exact h8 (j6 + (nI 1))
/-- dough(I)I -/
def m_dough (μ : Mem) (x1 : Int32) : Option (Int32 × Mem) :=
  nm (up2 μ 0 0 (nI 0)) fun μ1 =>
  if x1 = (-1 : Int32) then
  nm (up2 μ1 45 0 (nI 0)) fun μ5 =>
  some ((nI 0), μ5)
  else
  (m_isIn μ1 x1 (nI 1) (nI 30)).bind fun r2 =>
  if (bI r2) = 0 then
  some ((-1 : Int32), μ1)
  else
  if (μ1 45 0) = (nI 8) then
  some ((-1 : Int32), μ1)
  else
  (wr μ1 46 8 (μ1 45 0) x1).bind fun μ3 =>
  nm (up2 μ3 45 0 ((μ3 45 0) + (nI 1))) fun μ4 =>
  some ((μ4 45 0), μ4)
theorem wd_dough : yX4_dough.cls = RX4 ∧ yX4_dough.cls ≠ "java/lang/invoke/MethodHandle" ∧ yX4_dough.cls ≠ "java/lang/invoke/VarHandle" ∧ (parseMethodDescriptor yX4_dough.desc).map (fun d => d.parameters.length) = some 1 := by decide +kernel
set_option maxRecDepth 100000 in
theorem ct_dough (μ : Mem) (x1 : Int32) : CtM yX4_dough cX4_dough 2 (some .int) 1 23 [.int x1] μ (fun r => (some (.int r.1), r.2)) (m_dough μ x1) := by
  refine CtM.of (by decide) rfl (fun _ => Nat.le_of_ble_eq_true rfl) ?_
  intro l D cl ci cA am p e s m args below meth c hcl K hr hlk hK
  refine g_sub (ls' := [(0, .ref am), (1, .int x1)]) [0, 1] rfl ?_
  unfold m_dough
  refine g_aloadn K 0 rfl rfl 1 dX4_dough_0 rfl ?_
  refine g_iconst K (nI 0) ic_0 2 dX4_dough_1 rfl ?_
  refine gm_put K hK hcl 0 (ty := .int) 5 (by decide) q1485 rfl (by decide +kernel) rfl rfl rfl dX4_dough_2 rfl (fun μ1 _ => ?_)
  refine g_iloadn K 1 rfl rfl 6 dX4_dough_5 rfl ?_
  refine g_iconst K (-1 : Int32) ic_m1 7 dX4_dough_6 rfl ?_
  refine g_icmp_ne K 10 17 dX4_dough_7 rfl (by decide) (fun _ => ?_) (fun _ => ?_)
  · refine g_aloadn K 0 rfl rfl 11 dX4_dough_10 rfl ?_
    refine g_iconst K (nI 0) ic_0 12 dX4_dough_11 rfl ?_
    refine gm_put K hK hcl 45 (ty := .int) 15 (by decide) q1530 rfl (by decide +kernel) rfl rfl rfl dX4_dough_12 rfl (fun μ5 _ => ?_)
    refine g_iconst K (nI 0) ic_0 16 dX4_dough_15 rfl ?_
    exact gm_iret K hK hcl hr hlk dX4_dough_16 rfl
  · refine g_aloadn K 0 rfl rfl 18 dX4_dough_17 rfl ?_
    refine g_iloadn K 1 rfl rfl 19 dX4_dough_18 rfl ?_
    refine g_iconst K (nI 1) ic_1 20 dX4_dough_19 rfl ?_
    refine g_bipush K (nI 30) bp_30 22 dX4_dough_20 rfl ?_
    refine gm_call K hK hcl 25 (ct_isIn μ1 x1 (nI 1) (nI 30)) (lw_V q1723 q1725 qs55 q158 q1726) wd_isIn (by decide) rfl (Nat.le_of_ble_eq_true rfl) dX4_dough_22 rfl (fun r2 _ => ?_)
    refine g_if_eq K 28 37 dX4_dough_25 rfl (by decide) (fun _ => ?_) (fun _ => ?_)
    · refine g_iconst K (-1 : Int32) ic_m1 38 dX4_dough_37 rfl ?_
      exact gm_iret K hK hcl hr hlk dX4_dough_38 rfl
    · refine g_aloadn K 0 rfl rfl 29 dX4_dough_28 rfl ?_
      refine gm_get K hK hcl 45 32 (by decide) q1530 rfl dX4_dough_29 rfl ?_
      refine g_bipush K (nI 8) bp_8 34 dX4_dough_32 rfl ?_
      refine g_icmp_ne K 37 39 dX4_dough_34 rfl (by decide) (fun _ => ?_) (fun _ => ?_)
      · refine g_iconst K (-1 : Int32) ic_m1 38 dX4_dough_37 rfl ?_
        exact gm_iret K hK hcl hr hlk dX4_dough_38 rfl
      · refine g_aloadn K 0 rfl rfl 40 dX4_dough_39 rfl ?_
        refine gm_get K hK hcl 46 43 (by decide) q1531 rfl dX4_dough_40 rfl ?_
        refine g_aloadn K 0 rfl rfl 44 dX4_dough_43 rfl ?_
        refine gm_get K hK hcl 45 47 (by decide) q1530 rfl dX4_dough_44 rfl ?_
        refine g_iloadn K 1 rfl rfl 48 dX4_dough_47 rfl ?_
        refine gm_ast K hK hcl 46 25 8 49 rfl (fun _ => rfl) dX4_dough_48 rfl (fun μ3 _ => ?_)
        refine g_aloadn K 0 rfl rfl 50 dX4_dough_49 rfl ?_
        refine g_aloadn K 0 rfl rfl 51 dX4_dough_50 rfl ?_
        refine gm_get K hK hcl 45 54 (by decide) q1530 rfl dX4_dough_51 rfl ?_
        refine g_iconst K (nI 1) ic_1 55 dX4_dough_54 rfl ?_
        refine g_iadd K 56 dX4_dough_55 rfl ?_
        refine gm_put K hK hcl 45 (ty := .int) 59 (by decide) q1530 rfl (by decide +kernel) rfl rfl rfl dX4_dough_56 rfl (fun μ4 _ => ?_)
        refine g_aloadn K 0 rfl rfl 60 dX4_dough_59 rfl ?_
        refine gm_get K hK hcl 45 63 (by decide) q1530 rfl dX4_dough_60 rfl ?_
        exact gm_iret K hK hcl hr hlk dX4_dough_63 rfl
/-- withDough(III)I -/
def m_withDough (μ : Mem) (x1 : Int32) (x2 : Int32) (x3 : Int32) : Option (Int32) :=
  (idivO x1 (nI 100)).bind fun v1 =>
  (iremO x1 (nI 100)).bind fun v2 =>
  jn (fun (j3 : Unit) =>
  some (((nI 100) * (v1 + (nI 1))) + x2)) (fun k4 =>
  if v1 ≤ 0 then
  k4 ()
  else
  if x3 < (v2 + x2) then
  k4 ()
  else
  some ((((nI 100) * v1) + v2) + x2))
theorem wd_withDough : yX4_withDough.cls = RX4 ∧ yX4_withDough.cls ≠ "java/lang/invoke/MethodHandle" ∧ yX4_withDough.cls ≠ "java/lang/invoke/VarHandle" ∧ (parseMethodDescriptor yX4_withDough.desc).map (fun d => d.parameters.length) = some 3 := by decide +kernel
set_option maxRecDepth 100000 in
theorem ct_withDough (μ : Mem) (x1 : Int32) (x2 : Int32) (x3 : Int32) : CtM yX4_withDough cX4_withDough 6 (some .int) 0 0 [.int x1, .int x2, .int x3] μ (fun r => (some (.int r), μ)) (m_withDough μ x1 x2 x3) := by
  refine CtM.of (by decide) rfl (fun _ => Nat.le_of_ble_eq_true rfl) ?_
  intro l D cl ci cA am p e s m args below meth c hcl K hr hlk hK
  refine g_sub (ls' := [(0, .ref am), (1, .int x1), (2, .int x2), (3, .int x3)]) [0, 1, 2, 3] rfl ?_
  unfold m_withDough
  refine g_iloadn K 1 rfl rfl 1 dX4_withDough_0 rfl ?_
  refine g_bipush K (nI 100) bp_100 3 dX4_withDough_1 rfl ?_
  refine g_idiv K 4 dX4_withDough_3 rfl (fun v1 _ _ => ?_)
  refine g_istore K [(0, .ref am), (1, .int x1), (2, .int x2), (3, .int x3), (4, .int v1)] [1, 2, 3, 4, 0] (by decide) rfl 6 dX4_withDough_4 rfl ?_
  refine g_iloadn K 1 rfl rfl 7 dX4_withDough_6 rfl ?_
  refine g_bipush K (nI 100) bp_100 9 dX4_withDough_7 rfl ?_
  refine g_irem K 10 dX4_withDough_9 rfl (fun v2 _ _ => ?_)
  refine g_istore K [(0, .ref am), (2, .int x2), (3, .int x3), (4, .int v1), (5, .int v2)] [1, 3, 4, 5, 0] (by decide) rfl 12 dX4_withDough_10 rfl ?_
  refine g_iload K 3 rfl 14 dX4_withDough_12 rfl ?_
  refine g_jn (head := 38) (L := fun j3 => [(0, .ref am), (2, .int x2), (4, .int v1)]) (sf := fun j3 => []) (mf := fun j3 => μ) (fun j3 => ?_) (fun k4 h5 => ?_)
  · try dsimp only
    refine g_bipush K (nI 100) bp_100 40 dX4_withDough_38 rfl ?_
    refine g_iload K 2 rfl 42 dX4_withDough_40 rfl ?_
    refine g_iconst K (nI 1) ic_1 43 dX4_withDough_42 rfl ?_
    refine g_iadd K 44 dX4_withDough_43 rfl ?_
    refine g_imul K 45 dX4_withDough_44 rfl ?_
    refine g_iloadn K 1 rfl rfl 46 dX4_withDough_45 rfl ?_
    refine g_iadd K 47 dX4_withDough_46 rfl ?_
    exact gm_iret K hK hcl hr hlk dX4_withDough_47 rfl
  · refine g_if_le K 17 38 dX4_withDough_14 rfl (by decide) (fun _ => ?_) (fun _ => ?_)
    · refine g_sub (ls' := [(0, .ref am), (2, .int x2), (4, .int v1)]) [0, 1, 3] rfl ?_
      exact h5 ()
    · refine g_iload K 4 rfl 19 dX4_withDough_17 rfl ?_
      refine g_iloadn K 1 rfl rfl 20 dX4_withDough_19 rfl ?_
      refine g_iadd K 21 dX4_withDough_20 rfl ?_
      refine g_iloadn K 2 rfl rfl 22 dX4_withDough_21 rfl ?_
      refine g_icmp_gt K 25 38 dX4_withDough_22 rfl (by decide) (fun _ => ?_) (fun _ => ?_)
      · refine g_sub (ls' := [(0, .ref am), (2, .int x2), (4, .int v1)]) [0, 1, 3] rfl ?_
        exact h5 ()
      · refine g_bipush K (nI 100) bp_100 27 dX4_withDough_25 rfl ?_
        refine g_iload K 3 rfl 29 dX4_withDough_27 rfl ?_
        refine g_imul K 30 dX4_withDough_29 rfl ?_
        refine g_iload K 4 rfl 32 dX4_withDough_30 rfl ?_
        refine g_iadd K 33 dX4_withDough_32 rfl ?_
        refine g_iloadn K 1 rfl rfl 34 dX4_withDough_33 rfl ?_
        refine g_iadd K 35 dX4_withDough_34 rfl ?_
        refine g_goto K 47 dX4_withDough_35 (by decide) ?_
        exact gm_iret K hK hcl hr hlk dX4_withDough_47 rfl
/-- fewestPans(I)I -/
def m_fewestPans (μ : Mem) (x1 : Int32) : Option (Int32 × Mem) :=
  (wr μ 47 256 (nI 0) (nI 0)).bind fun μ1 =>
  jn (fun (j2 : Mem) =>
  (rd j2 47 256 (((nI 1) <<< ((j2 45 0) &&& 31)) - (nI 1))).bind fun v5 =>
  (idivO v5 (nI 100)).bind fun v6 =>
  some (v6, j2)) (fun k3 =>
  lp (fun again8 (j7 : Int32 × Mem) =>
  if ((nI 1) <<< ((j7.2 45 0) &&& 31)) ≤ j7.1 then
  k3 j7.2
  else
  (wr j7.2 47 256 j7.1 (100000000 : Int32)).bind fun μ10 =>
  lp (fun again12 (j11 : Int32 × Mem) =>
  if (j11.2 45 0) ≤ j11.1 then
  again8 ((j7.1 + (nI 1)), j11.2)
  else
  (m_has j11.2 j7.1 j11.1).bind fun r14 =>
  if (bI r14) = 0 then
  again12 ((j11.1 + (nI 1)), j11.2)
  else
  (rd j11.2 47 256 j7.1).bind fun v15 =>
  (rd j11.2 47 256 (j7.1 &&& (((nI 1) <<< (j11.1 &&& 31)) ^^^ (-1 : Int32)))).bind fun v16 =>
  (rd j11.2 46 8 j11.1).bind fun v17 =>
  (m_withDough j11.2 v16 v17 x1).bind fun r18 =>
  (m_lesser j11.2 v15 r18).bind fun r19 =>
  (wr j11.2 47 256 j7.1 r19).bind fun μ20 =>
  again12 ((j11.1 + (nI 1)), μ20)) fuel ((nI 0), μ10)) fuel ((nI 1), μ1))
theorem wd_fewestPans : yX4_fewestPans.cls = RX4 ∧ yX4_fewestPans.cls ≠ "java/lang/invoke/MethodHandle" ∧ yX4_fewestPans.cls ≠ "java/lang/invoke/VarHandle" ∧ (parseMethodDescriptor yX4_fewestPans.desc).map (fun d => d.parameters.length) = some 1 := by decide +kernel
set_option maxRecDepth 100000 in
theorem ct_fewestPans (μ : Mem) (x1 : Int32) : CtM yX4_fewestPans cX4_fewestPans 4 (some .int) 1 25 [.int x1] μ (fun r => (some (.int r.1), r.2)) (m_fewestPans μ x1) := by
  refine CtM.of (by decide) rfl (fun _ => Nat.le_of_ble_eq_true rfl) ?_
  intro l D cl ci cA am p e s m args below meth c hcl K hr hlk hK
  refine g_sub (ls' := [(0, .ref am), (1, .int x1)]) [0, 1] rfl ?_
  unfold m_fewestPans
  refine g_aloadn K 0 rfl rfl 1 dX4_fewestPans_0 rfl ?_
  refine gm_get K hK hcl 47 4 (by decide) q1532 rfl dX4_fewestPans_1 rfl ?_
  refine g_iconst K (nI 0) ic_0 5 dX4_fewestPans_4 rfl ?_
  refine g_iconst K (nI 0) ic_0 6 dX4_fewestPans_5 rfl ?_
  refine gm_ast K hK hcl 47 26 256 7 rfl (fun _ => rfl) dX4_fewestPans_6 rfl (fun μ1 _ => ?_)
  refine g_iconst K (nI 1) ic_1 8 dX4_fewestPans_7 rfl ?_
  refine g_istoren K [(0, .ref am), (1, .int x1), (2, .int (nI 1))] [1, 2, 0] rfl (by decide) rfl 9 dX4_fewestPans_8 rfl ?_
  refine g_jn (head := 98) (L := fun j2 => [(0, .ref am)]) (sf := fun j2 => []) (mf := fun j2 => j2) (fun j2 => ?_) (fun k3 h4 => ?_)
  · try dsimp only
    refine g_aloadn K 0 rfl rfl 99 dX4_fewestPans_98 rfl ?_
    refine gm_get K hK hcl 47 102 (by decide) q1532 rfl dX4_fewestPans_99 rfl ?_
    refine g_iconst K (nI 1) ic_1 103 dX4_fewestPans_102 rfl ?_
    refine g_aloadn K 0 rfl rfl 104 dX4_fewestPans_103 rfl ?_
    refine gm_get K hK hcl 45 107 (by decide) q1530 rfl dX4_fewestPans_104 rfl ?_
    refine g_ishl K 108 dX4_fewestPans_107 rfl ?_
    refine g_iconst K (nI 1) ic_1 109 dX4_fewestPans_108 rfl ?_
    refine g_isub K 110 dX4_fewestPans_109 rfl ?_
    refine gm_ald K hK hcl 47 26 256 111 rfl dX4_fewestPans_110 rfl (fun v5 _ => ?_)
    refine g_bipush K (nI 100) bp_100 113 dX4_fewestPans_111 rfl ?_
    refine g_idiv K 114 dX4_fewestPans_113 rfl (fun v6 _ _ => ?_)
    exact gm_iret K hK hcl hr hlk dX4_fewestPans_114 rfl
  · refine g_lp (head := 9) (L := fun j7 => [(0, .ref am), (1, .int x1), (2, .int j7.1)]) (sf := fun j7 => []) (mf := fun j7 => j7.2) (fun again8 h9 j7 => ?_) fuel ((nI 1), μ1)
    try dsimp only
    refine g_iloadn K 2 rfl rfl 10 dX4_fewestPans_9 rfl ?_
    refine g_iconst K (nI 1) ic_1 11 dX4_fewestPans_10 rfl ?_
    refine g_aloadn K 0 rfl rfl 12 dX4_fewestPans_11 rfl ?_
    refine gm_get K hK hcl 45 15 (by decide) q1530 rfl dX4_fewestPans_12 rfl ?_
    refine g_ishl K 16 dX4_fewestPans_15 rfl ?_
    refine g_icmp_ge K 19 98 dX4_fewestPans_16 rfl (by decide) (fun _ => ?_) (fun _ => ?_)
    · refine g_sub (ls' := [(0, .ref am)]) [0] rfl ?_
      exact h4 j7.2
    · refine g_aloadn K 0 rfl rfl 20 dX4_fewestPans_19 rfl ?_
      refine gm_get K hK hcl 47 23 (by decide) q1532 rfl dX4_fewestPans_20 rfl ?_
      refine g_iloadn K 2 rfl rfl 24 dX4_fewestPans_23 rfl ?_
      refine g_ldcw K q2073 27 dX4_fewestPans_24 rfl ?_
      refine gm_ast K hK hcl 47 26 256 28 rfl (fun _ => rfl) dX4_fewestPans_27 rfl (fun μ10 _ => ?_)
      refine g_iconst K (nI 0) ic_0 29 dX4_fewestPans_28 rfl ?_
      refine g_istoren K [(0, .ref am), (1, .int x1), (2, .int j7.1), (3, .int (nI 0))] [1, 2, 3, 0] rfl (by decide) rfl 30 dX4_fewestPans_29 rfl ?_
      refine g_lp (head := 30) (L := fun j11 => [(0, .ref am), (1, .int x1), (2, .int j7.1), (3, .int j11.1)]) (sf := fun j11 => []) (mf := fun j11 => j11.2) (fun again12 h13 j11 => ?_) fuel ((nI 0), μ10)
      try dsimp only
      refine g_iloadn K 3 rfl rfl 31 dX4_fewestPans_30 rfl ?_
      refine g_aloadn K 0 rfl rfl 32 dX4_fewestPans_31 rfl ?_
      refine gm_get K hK hcl 45 35 (by decide) q1530 rfl dX4_fewestPans_32 rfl ?_
      refine g_icmp_ge K 38 92 dX4_fewestPans_35 rfl (by decide) (fun _ => ?_) (fun _ => ?_)
      · refine g_iinc K (j7.1 + (nI 1)) 2 [(0, .ref am), (1, .int x1), (2, .int (j7.1 + (nI 1)))] [1, 2, 0] rfl (by rw [ic_1]) (by decide) rfl 95 dX4_fewestPans_92 rfl ?_
        refine g_goto K 9 dX4_fewestPans_95 (by decide) ?_
        exact h9 ((j7.1 + (nI 1)), j11.2)
      · refine g_aloadn K 0 rfl rfl 39 dX4_fewestPans_38 rfl ?_
        refine g_iloadn K 2 rfl rfl 40 dX4_fewestPans_39 rfl ?_
        refine g_iloadn K 3 rfl rfl 41 dX4_fewestPans_40 rfl ?_
        refine gm_call K hK hcl 44 (ct_has j11.2 j7.1 j11.1) (lw_V q1931 q1933 qs101 q158 q1934) wd_has (by decide) rfl (Nat.le_of_ble_eq_true rfl) dX4_fewestPans_41 rfl (fun r14 _ => ?_)
        refine g_if_eq K 47 86 dX4_fewestPans_44 rfl (by decide) (fun _ => ?_) (fun _ => ?_)
        · refine g_iinc K (j11.1 + (nI 1)) 3 [(0, .ref am), (1, .int x1), (2, .int j7.1), (3, .int (j11.1 + (nI 1)))] [1, 2, 3, 0] rfl (by rw [ic_1]) (by decide) rfl 89 dX4_fewestPans_86 rfl ?_
          refine g_goto K 30 dX4_fewestPans_89 (by decide) ?_
          exact h13 ((j11.1 + (nI 1)), j11.2)
        · refine g_aloadn K 0 rfl rfl 48 dX4_fewestPans_47 rfl ?_
          refine gm_get K hK hcl 47 51 (by decide) q1532 rfl dX4_fewestPans_48 rfl ?_
          refine g_iloadn K 2 rfl rfl 52 dX4_fewestPans_51 rfl ?_
          refine g_aloadn K 0 rfl rfl 53 dX4_fewestPans_52 rfl ?_
          refine g_aloadn K 0 rfl rfl 54 dX4_fewestPans_53 rfl ?_
          refine gm_get K hK hcl 47 57 (by decide) q1532 rfl dX4_fewestPans_54 rfl ?_
          refine g_iloadn K 2 rfl rfl 58 dX4_fewestPans_57 rfl ?_
          refine gm_ald K hK hcl 47 26 256 59 rfl dX4_fewestPans_58 rfl (fun v15 _ => ?_)
          refine g_aloadn K 0 rfl rfl 60 dX4_fewestPans_59 rfl ?_
          refine g_aloadn K 0 rfl rfl 61 dX4_fewestPans_60 rfl ?_
          refine gm_get K hK hcl 47 64 (by decide) q1532 rfl dX4_fewestPans_61 rfl ?_
          refine g_iloadn K 2 rfl rfl 65 dX4_fewestPans_64 rfl ?_
          refine g_iconst K (nI 1) ic_1 66 dX4_fewestPans_65 rfl ?_
          refine g_iloadn K 3 rfl rfl 67 dX4_fewestPans_66 rfl ?_
          refine g_ishl K 68 dX4_fewestPans_67 rfl ?_
          refine g_iconst K (-1 : Int32) ic_m1 69 dX4_fewestPans_68 rfl ?_
          refine g_ixor K 70 dX4_fewestPans_69 rfl ?_
          refine g_iand K 71 dX4_fewestPans_70 rfl ?_
          refine gm_ald K hK hcl 47 26 256 72 rfl dX4_fewestPans_71 rfl (fun v16 _ => ?_)
          refine g_aloadn K 0 rfl rfl 73 dX4_fewestPans_72 rfl ?_
          refine gm_get K hK hcl 46 76 (by decide) q1531 rfl dX4_fewestPans_73 rfl ?_
          refine g_iloadn K 3 rfl rfl 77 dX4_fewestPans_76 rfl ?_
          refine gm_ald K hK hcl 46 25 8 78 rfl dX4_fewestPans_77 rfl (fun v17 _ => ?_)
          refine g_iloadn K 1 rfl rfl 79 dX4_fewestPans_78 rfl ?_
          refine gm_call K hK hcl 82 (ct_withDough j11.2 v16 v17 x1) (lw_V q2114 q2116 qs134 q158 q2117) wd_withDough (by decide) rfl (Nat.le_of_ble_eq_true rfl) dX4_fewestPans_79 rfl (fun r18 _ => ?_)
          refine gm_call K hK hcl 85 (ct_lesser j11.2 v15 r18) (lw_V q2025 q2027 qs123 q158 q2028) wd_lesser (by decide) rfl (Nat.le_of_ble_eq_true rfl) dX4_fewestPans_82 rfl (fun r19 _ => ?_)
          refine gm_ast K hK hcl 47 26 256 86 rfl (fun _ => rfl) dX4_fewestPans_85 rfl (fun μ20 _ => ?_)
          refine g_iinc K (j11.1 + (nI 1)) 3 [(0, .ref am), (1, .int x1), (2, .int j7.1), (3, .int (j11.1 + (nI 1)))] [1, 2, 3, 0] rfl (by rw [ic_1]) (by decide) rfl 89 dX4_fewestPans_86 rfl ?_
          refine g_goto K 30 dX4_fewestPans_89 (by decide) ?_
          exact h13 ((j11.1 + (nI 1)), μ20)
/-- firstPans(I)I -/
def m_firstPans (μ : Mem) (x1 : Int32) : Option (Int32 × Mem) :=
  lp (fun again2 (j1 : Int32 × Int32 × Mem) =>
  if (j1.2.2 45 0) ≤ j1.2.1 then
  some (j1.1, j1.2.2)
  else
  jn (fun (j4 : Int32) =>
  jn (fun (j7 : Int32 × Mem) =>
  (rd j7.2 48 8 j4).bind fun v10 =>
  (rd j7.2 46 8 j1.2.1).bind fun v11 =>
  (wr j7.2 48 8 j4 (v10 - v11)).bind fun μ12 =>
  again2 (j7.1, (j1.2.1 + (nI 1)), μ12)) (fun k8 =>
  if j4 = j1.1 then
  (wr j1.2.2 48 8 j4 x1).bind fun μ13 =>
  k8 ((j1.1 + (nI 1)), μ13)
  else
  k8 (j1.1, j1.2.2))) (fun k5 =>
  lp (fun again15 (j14 : Int32) =>
  if j1.1 ≤ j14 then
  k5 j14
  else
  (rd j1.2.2 48 8 j14).bind fun v17 =>
  (rd j1.2.2 46 8 j1.2.1).bind fun v18 =>
  if v18 ≤ v17 then
  k5 j14
  else
  again15 (j14 + (nI 1))) fuel (nI 0))) fuel ((nI 0), (nI 0), μ)
theorem wd_firstPans : yX4_firstPans.cls = RX4 ∧ yX4_firstPans.cls ≠ "java/lang/invoke/MethodHandle" ∧ yX4_firstPans.cls ≠ "java/lang/invoke/VarHandle" ∧ (parseMethodDescriptor yX4_firstPans.desc).map (fun d => d.parameters.length) = some 1 := by decide +kernel
set_option maxRecDepth 100000 in
theorem ct_firstPans (μ : Mem) (x1 : Int32) : CtM yX4_firstPans cX4_firstPans 5 (some .int) 0 0 [.int x1] μ (fun r => (some (.int r.1), r.2)) (m_firstPans μ x1) := by
  refine CtM.of (by decide) rfl (fun _ => Nat.le_of_ble_eq_true rfl) ?_
  intro l D cl ci cA am p e s m args below meth c hcl K hr hlk hK
  refine g_sub (ls' := [(0, .ref am), (1, .int x1)]) [0, 1] rfl ?_
  unfold m_firstPans
  refine g_iconst K (nI 0) ic_0 1 dX4_firstPans_0 rfl ?_
  refine g_istoren K [(0, .ref am), (1, .int x1), (2, .int (nI 0))] [1, 2, 0] rfl (by decide) rfl 2 dX4_firstPans_1 rfl ?_
  refine g_iconst K (nI 0) ic_0 3 dX4_firstPans_2 rfl ?_
  refine g_istoren K [(0, .ref am), (1, .int x1), (2, .int (nI 0)), (3, .int (nI 0))] [1, 2, 3, 0] rfl (by decide) rfl 4 dX4_firstPans_3 rfl ?_
  refine g_lp (head := 4) (L := fun j1 => [(0, .ref am), (1, .int x1), (2, .int j1.1), (3, .int j1.2.1)]) (sf := fun j1 => []) (mf := fun j1 => j1.2.2) (fun again2 h3 j1 => ?_) fuel ((nI 0), (nI 0), μ)
  try dsimp only
  refine g_iloadn K 3 rfl rfl 5 dX4_firstPans_4 rfl ?_
  refine g_aloadn K 0 rfl rfl 6 dX4_firstPans_5 rfl ?_
  refine gm_get K hK hcl 45 9 (by decide) q1530 rfl dX4_firstPans_6 rfl ?_
  refine g_icmp_ge K 12 91 dX4_firstPans_9 rfl (by decide) (fun _ => ?_) (fun _ => ?_)
  · refine g_iloadn K 2 rfl rfl 92 dX4_firstPans_91 rfl ?_
    exact gm_iret K hK hcl hr hlk dX4_firstPans_92 rfl
  · refine g_iconst K (nI 0) ic_0 13 dX4_firstPans_12 rfl ?_
    refine g_istore K [(0, .ref am), (1, .int x1), (2, .int j1.1), (3, .int j1.2.1), (4, .int (nI 0))] [1, 2, 3, 4, 0] (by decide) rfl 15 dX4_firstPans_13 rfl ?_
    refine g_jn (head := 46) (L := fun j4 => [(0, .ref am), (1, .int x1), (2, .int j1.1), (3, .int j1.2.1), (4, .int j4)]) (sf := fun j4 => []) (mf := fun j4 => j1.2.2) (fun j4 => ?_) (fun k5 h6 => ?_)
    · try dsimp only
      refine g_iload K 4 rfl 48 dX4_firstPans_46 rfl ?_
      refine g_iloadn K 2 rfl rfl 49 dX4_firstPans_48 rfl ?_
      refine g_jn (head := 64) (L := fun j7 => [(0, .ref am), (1, .int x1), (2, .int j7.1), (3, .int j1.2.1), (4, .int j4)]) (sf := fun j7 => []) (mf := fun j7 => j7.2) (fun j7 => ?_) (fun k8 h9 => ?_)
      · try dsimp only
        refine g_aloadn K 0 rfl rfl 65 dX4_firstPans_64 rfl ?_
        refine gm_get K hK hcl 48 68 (by decide) q1533 rfl dX4_firstPans_65 rfl ?_
        refine g_iload K 4 rfl 70 dX4_firstPans_68 rfl ?_
        refine g_aloadn K 0 rfl rfl 71 dX4_firstPans_70 rfl ?_
        refine gm_get K hK hcl 48 74 (by decide) q1533 rfl dX4_firstPans_71 rfl ?_
        refine g_iload K 4 rfl 76 dX4_firstPans_74 rfl ?_
        refine gm_ald K hK hcl 48 27 8 77 rfl dX4_firstPans_76 rfl (fun v10 _ => ?_)
        refine g_aloadn K 0 rfl rfl 78 dX4_firstPans_77 rfl ?_
        refine gm_get K hK hcl 46 81 (by decide) q1531 rfl dX4_firstPans_78 rfl ?_
        refine g_iloadn K 3 rfl rfl 82 dX4_firstPans_81 rfl ?_
        refine gm_ald K hK hcl 46 25 8 83 rfl dX4_firstPans_82 rfl (fun v11 _ => ?_)
        refine g_isub K 84 dX4_firstPans_83 rfl ?_
        refine gm_ast K hK hcl 48 27 8 85 rfl (fun _ => rfl) dX4_firstPans_84 rfl (fun μ12 _ => ?_)
        refine g_iinc K (j1.2.1 + (nI 1)) 3 [(0, .ref am), (1, .int x1), (2, .int j7.1), (3, .int (j1.2.1 + (nI 1)))] [1, 2, 3, 0] rfl (by rw [ic_1]) (by decide) rfl 88 dX4_firstPans_85 rfl ?_
        refine g_goto K 4 dX4_firstPans_88 (by decide) ?_
        exact h3 (j7.1, (j1.2.1 + (nI 1)), μ12)
      · refine g_icmp_ne K 52 64 dX4_firstPans_49 rfl (by decide) (fun _ => ?_) (fun _ => ?_)
        · refine g_aloadn K 0 rfl rfl 53 dX4_firstPans_52 rfl ?_
          refine gm_get K hK hcl 48 56 (by decide) q1533 rfl dX4_firstPans_53 rfl ?_
          refine g_iload K 4 rfl 58 dX4_firstPans_56 rfl ?_
          refine g_iloadn K 1 rfl rfl 59 dX4_firstPans_58 rfl ?_
          refine gm_ast K hK hcl 48 27 8 60 rfl (fun _ => rfl) dX4_firstPans_59 rfl (fun μ13 _ => ?_)
          refine g_iloadn K 2 rfl rfl 61 dX4_firstPans_60 rfl ?_
          refine g_iconst K (nI 1) ic_1 62 dX4_firstPans_61 rfl ?_
          refine g_iadd K 63 dX4_firstPans_62 rfl ?_
          refine g_istoren K [(0, .ref am), (1, .int x1), (2, .int (j1.1 + (nI 1))), (3, .int j1.2.1), (4, .int j4)] [1, 2, 0, 3, 4] rfl (by decide) rfl 64 dX4_firstPans_63 rfl ?_
          exact h9 ((j1.1 + (nI 1)), μ13)
        · exact h9 (j1.1, j1.2.2)
    · refine g_lp (head := 15) (L := fun j14 => [(0, .ref am), (1, .int x1), (2, .int j1.1), (3, .int j1.2.1), (4, .int j14)]) (sf := fun j14 => []) (mf := fun j14 => j1.2.2) (fun again15 h16 j14 => ?_) fuel (nI 0)
      try dsimp only
      refine g_iload K 4 rfl 17 dX4_firstPans_15 rfl ?_
      refine g_iloadn K 2 rfl rfl 18 dX4_firstPans_17 rfl ?_
      refine g_icmp_ge K 21 46 dX4_firstPans_18 rfl (by decide) (fun _ => ?_) (fun _ => ?_)
      · exact h6 j14
      · refine g_aloadn K 0 rfl rfl 22 dX4_firstPans_21 rfl ?_
        refine gm_get K hK hcl 48 25 (by decide) q1533 rfl dX4_firstPans_22 rfl ?_
        refine g_iload K 4 rfl 27 dX4_firstPans_25 rfl ?_
        refine gm_ald K hK hcl 48 27 8 28 rfl dX4_firstPans_27 rfl (fun v17 _ => ?_)
        refine g_aloadn K 0 rfl rfl 29 dX4_firstPans_28 rfl ?_
        refine gm_get K hK hcl 46 32 (by decide) q1531 rfl dX4_firstPans_29 rfl ?_
        refine g_iloadn K 3 rfl rfl 33 dX4_firstPans_32 rfl ?_
        refine gm_ald K hK hcl 46 25 8 34 rfl dX4_firstPans_33 rfl (fun v18 _ => ?_)
        refine g_icmp_ge K 37 46 dX4_firstPans_34 rfl (by decide) (fun _ => ?_) (fun _ => ?_)
        · exact h6 j14
        · refine g_iload K 4 rfl 39 dX4_firstPans_37 rfl ?_
          refine g_iconst K (nI 1) ic_1 40 dX4_firstPans_39 rfl ?_
          refine g_iadd K 41 dX4_firstPans_40 rfl ?_
          refine g_istore K [(0, .ref am), (1, .int x1), (2, .int j1.1), (3, .int j1.2.1), (4, .int (j14 + (nI 1)))] [1, 2, 3, 4, 0] (by decide) rfl 43 dX4_firstPans_41 rfl ?_
          refine g_goto K 15 dX4_firstPans_43 (by decide) ?_
          exact h16 (j14 + (nI 1))
/-- pans(II)I -/
def m_pans (μ : Mem) (x1 : Int32) (x2 : Int32) : Option (Int32 × Mem) :=
  nm (up2 μ 0 0 (nI 0)) fun μ1 =>
  (m_isIn μ1 x1 (nI 1) (nI 60)).bind fun r2 =>
  if (bI r2) = 0 then
  some ((-1 : Int32), μ1)
  else
  (m_isIn μ1 x2 (nI 0) (nI 1)).bind fun r3 =>
  if (bI r3) = 0 then
  some ((-1 : Int32), μ1)
  else
  jn (fun (j4 : Unit) =>
  if x2 = 0 then
  (m_fewestPans μ1 x1).bind fun r8 =>
  some (r8.1, r8.2)
  else
  (m_firstPans μ1 x1).bind fun r7 =>
  some (r7.1, r7.2)) (fun k5 =>
  lp (fun again10 (j9 : Int32) =>
  if (μ1 45 0) ≤ j9 then
  k5 ()
  else
  (rd μ1 46 8 j9).bind fun v12 =>
  if v12 ≤ x1 then
  again10 (j9 + (nI 1))
  else
  some ((-1 : Int32), μ1)) fuel (nI 0))
theorem wd_pans : yX4_pans.cls = RX4 ∧ yX4_pans.cls ≠ "java/lang/invoke/MethodHandle" ∧ yX4_pans.cls ≠ "java/lang/invoke/VarHandle" ∧ (parseMethodDescriptor yX4_pans.desc).map (fun d => d.parameters.length) = some 2 := by decide +kernel
set_option maxRecDepth 100000 in
theorem ct_pans (μ : Mem) (x1 : Int32) (x2 : Int32) : CtM yX4_pans cX4_pans 4 (some .int) 2 48 [.int x1, .int x2] μ (fun r => (some (.int r.1), r.2)) (m_pans μ x1 x2) := by
  refine CtM.of (by decide) rfl (fun _ => Nat.le_of_ble_eq_true rfl) ?_
  intro l D cl ci cA am p e s m args below meth c hcl K hr hlk hK
  refine g_sub (ls' := [(0, .ref am), (1, .int x1), (2, .int x2)]) [0, 1, 2] rfl ?_
  unfold m_pans
  refine g_aloadn K 0 rfl rfl 1 dX4_pans_0 rfl ?_
  refine g_iconst K (nI 0) ic_0 2 dX4_pans_1 rfl ?_
  refine gm_put K hK hcl 0 (ty := .int) 5 (by decide) q1485 rfl (by decide +kernel) rfl rfl rfl dX4_pans_2 rfl (fun μ1 _ => ?_)
  refine g_aloadn K 0 rfl rfl 6 dX4_pans_5 rfl ?_
  refine g_iloadn K 1 rfl rfl 7 dX4_pans_6 rfl ?_
  refine g_iconst K (nI 1) ic_1 8 dX4_pans_7 rfl ?_
  refine g_bipush K (nI 60) bp_60 10 dX4_pans_8 rfl ?_
  refine gm_call K hK hcl 13 (ct_isIn μ1 x1 (nI 1) (nI 60)) (lw_V q1723 q1725 qs55 q158 q1726) wd_isIn (by decide) rfl (Nat.le_of_ble_eq_true rfl) dX4_pans_10 rfl (fun r2 _ => ?_)
  refine g_if_eq K 16 26 dX4_pans_13 rfl (by decide) (fun _ => ?_) (fun _ => ?_)
  · refine g_iconst K (-1 : Int32) ic_m1 27 dX4_pans_26 rfl ?_
    exact gm_iret K hK hcl hr hlk dX4_pans_27 rfl
  · refine g_aloadn K 0 rfl rfl 17 dX4_pans_16 rfl ?_
    refine g_iloadn K 2 rfl rfl 18 dX4_pans_17 rfl ?_
    refine g_iconst K (nI 0) ic_0 19 dX4_pans_18 rfl ?_
    refine g_iconst K (nI 1) ic_1 20 dX4_pans_19 rfl ?_
    refine gm_call K hK hcl 23 (ct_isIn μ1 x2 (nI 0) (nI 1)) (lw_V q1723 q1725 qs55 q158 q1726) wd_isIn (by decide) rfl (Nat.le_of_ble_eq_true rfl) dX4_pans_20 rfl (fun r3 _ => ?_)
    refine g_if_ne K 26 28 dX4_pans_23 rfl (by decide) (fun _ => ?_) (fun _ => ?_)
    · refine g_iconst K (-1 : Int32) ic_m1 27 dX4_pans_26 rfl ?_
      exact gm_iret K hK hcl hr hlk dX4_pans_27 rfl
    · refine g_iconst K (nI 0) ic_0 29 dX4_pans_28 rfl ?_
      refine g_istoren K [(0, .ref am), (1, .int x1), (2, .int x2), (3, .int (nI 0))] [1, 2, 3, 0] rfl (by decide) rfl 30 dX4_pans_29 rfl ?_
      refine g_jn (head := 56) (L := fun j4 => [(0, .ref am), (1, .int x1), (2, .int x2)]) (sf := fun j4 => []) (mf := fun j4 => μ1) (fun j4 => ?_) (fun k5 h6 => ?_)
      · try dsimp only
        refine g_iloadn K 2 rfl rfl 57 dX4_pans_56 rfl ?_
        refine g_if_ne K 60 68 dX4_pans_57 rfl (by decide) (fun _ => ?_) (fun _ => ?_)
        · refine g_aloadn K 0 rfl rfl 61 dX4_pans_60 rfl ?_
          refine g_iloadn K 1 rfl rfl 62 dX4_pans_61 rfl ?_
          refine gm_call K hK hcl 65 (ct_fewestPans μ1 x1) (lw_V q2110 q2112 qs133 q158 q2113) wd_fewestPans (by decide) rfl (Nat.le_of_ble_eq_true rfl) dX4_pans_62 rfl (fun r8 _ => ?_)
          refine g_goto K 73 dX4_pans_65 (by decide) ?_
          exact gm_iret K hK hcl hr hlk dX4_pans_73 rfl
        · refine g_aloadn K 0 rfl rfl 69 dX4_pans_68 rfl ?_
          refine g_iloadn K 1 rfl rfl 70 dX4_pans_69 rfl ?_
          refine gm_call K hK hcl 73 (ct_firstPans μ1 x1) (lw_V q2118 q2120 qs135 q158 q2121) wd_firstPans (by decide) rfl (Nat.le_of_ble_eq_true rfl) dX4_pans_70 rfl (fun r7 _ => ?_)
          exact gm_iret K hK hcl hr hlk dX4_pans_73 rfl
      · refine g_lp (head := 30) (L := fun j9 => [(0, .ref am), (1, .int x1), (2, .int x2), (3, .int j9)]) (sf := fun j9 => []) (mf := fun j9 => μ1) (fun again10 h11 j9 => ?_) fuel (nI 0)
        try dsimp only
        refine g_iloadn K 3 rfl rfl 31 dX4_pans_30 rfl ?_
        refine g_aloadn K 0 rfl rfl 32 dX4_pans_31 rfl ?_
        refine gm_get K hK hcl 45 35 (by decide) q1530 rfl dX4_pans_32 rfl ?_
        refine g_icmp_ge K 38 56 dX4_pans_35 rfl (by decide) (fun _ => ?_) (fun _ => ?_)
        · refine g_sub (ls' := [(0, .ref am), (1, .int x1), (2, .int x2)]) [0, 1, 2] rfl ?_
          exact h6 ()
        · refine g_aloadn K 0 rfl rfl 39 dX4_pans_38 rfl ?_
          refine gm_get K hK hcl 46 42 (by decide) q1531 rfl dX4_pans_39 rfl ?_
          refine g_iloadn K 3 rfl rfl 43 dX4_pans_42 rfl ?_
          refine gm_ald K hK hcl 46 25 8 44 rfl dX4_pans_43 rfl (fun v12 _ => ?_)
          refine g_iloadn K 1 rfl rfl 45 dX4_pans_44 rfl ?_
          refine g_icmp_le K 48 50 dX4_pans_45 rfl (by decide) (fun _ => ?_) (fun _ => ?_)
          · refine g_iinc K (j9 + (nI 1)) 3 [(0, .ref am), (1, .int x1), (2, .int x2), (3, .int (j9 + (nI 1)))] [1, 2, 3, 0] rfl (by rw [ic_1]) (by decide) rfl 53 dX4_pans_50 rfl ?_
            refine g_goto K 30 dX4_pans_53 (by decide) ?_
            exact h11 (j9 + (nI 1))
          · refine g_iconst K (-1 : Int32) ic_m1 49 dX4_pans_48 rfl ?_
            exact gm_iret K hK hcl hr hlk dX4_pans_49 rfl
/-- mortgage(IIII)I -/
def m_mortgage (μ : Mem) (x1 : Int32) (x2 : Int32) (x3 : Int32) (x4 : Int32) : Option (Int32 × Mem) :=
  nm (up2 μ 0 0 (nI 0)) fun μ1 =>
  (m_isIn μ1 x1 (nI 1) (nI 9999)).bind fun r2 =>
  if (bI r2) = 0 then
  some ((-1 : Int32), μ1)
  else
  (m_isIn μ1 x2 (nI 0) (nI 50)).bind fun r3 =>
  if (bI r3) = 0 then
  some ((-1 : Int32), μ1)
  else
  (m_isIn μ1 x3 (nI 1) (nI 999)).bind fun r4 =>
  if (bI r4) = 0 then
  some ((-1 : Int32), μ1)
  else
  (m_isIn μ1 x4 (nI 0) (nI 1)).bind fun r5 =>
  if (bI r5) = 0 then
  some ((-1 : Int32), μ1)
  else
  jn (fun (j6 : Int32 × Int32) =>
  if x4 = 0 then
  some (j6.2, μ1)
  else
  some (j6.1, μ1)) (fun k7 =>
  lp (fun again10 (j9 : Int32 × Int32 × Int32) =>
  if (nI 400) < j9.2.2 then
  some ((-1 : Int32), μ1)
  else
  (idivO ((j9.1 * x2) + (nI 99)) (nI 100)).bind fun v12 =>
  (m_lesser μ1 (j9.1 + v12) x3).bind fun r13 =>
  if (j9.1 + v12) = r13 then
  k7 ((j9.2.1 + r13), j9.2.2)
  else
  if ((j9.1 + v12) - r13) < j9.1 then
  nm ((j9.1 + v12) - r13) fun v14 =>
  again10 (v14, (j9.2.1 + r13), (j9.2.2 + (nI 1)))
  else
  some ((-1 : Int32), μ1)) fuel (x1, (nI 0), (nI 1)))
theorem wd_mortgage : yX4_mortgage.cls = RX4 ∧ yX4_mortgage.cls ≠ "java/lang/invoke/MethodHandle" ∧ yX4_mortgage.cls ≠ "java/lang/invoke/VarHandle" ∧ (parseMethodDescriptor yX4_mortgage.desc).map (fun d => d.parameters.length) = some 4 := by decide +kernel
set_option maxRecDepth 100000 in
theorem ct_mortgage (μ : Mem) (x1 : Int32) (x2 : Int32) (x3 : Int32) (x4 : Int32) : CtM yX4_mortgage cX4_mortgage 10 (some .int) 1 23 [.int x1, .int x2, .int x3, .int x4] μ (fun r => (some (.int r.1), r.2)) (m_mortgage μ x1 x2 x3 x4) := by
  refine CtM.of (by decide) rfl (fun _ => Nat.le_of_ble_eq_true rfl) ?_
  intro l D cl ci cA am p e s m args below meth c hcl K hr hlk hK
  refine g_sub (ls' := [(0, .ref am), (1, .int x1), (2, .int x2), (3, .int x3), (4, .int x4)]) [0, 1, 2, 3, 4] rfl ?_
  unfold m_mortgage
  refine g_aloadn K 0 rfl rfl 1 dX4_mortgage_0 rfl ?_
  refine g_iconst K (nI 0) ic_0 2 dX4_mortgage_1 rfl ?_
  refine gm_put K hK hcl 0 (ty := .int) 5 (by decide) q1485 rfl (by decide +kernel) rfl rfl rfl dX4_mortgage_2 rfl (fun μ1 _ => ?_)
  refine g_aloadn K 0 rfl rfl 6 dX4_mortgage_5 rfl ?_
  refine g_iloadn K 1 rfl rfl 7 dX4_mortgage_6 rfl ?_
  refine g_iconst K (nI 1) ic_1 8 dX4_mortgage_7 rfl ?_
  refine g_sipush K (nI 9999) sp_9999 11 dX4_mortgage_8 rfl ?_
  refine gm_call K hK hcl 14 (ct_isIn μ1 x1 (nI 1) (nI 9999)) (lw_V q1723 q1725 qs55 q158 q1726) wd_isIn (by decide) rfl (Nat.le_of_ble_eq_true rfl) dX4_mortgage_11 rfl (fun r2 _ => ?_)
  refine g_if_eq K 17 51 dX4_mortgage_14 rfl (by decide) (fun _ => ?_) (fun _ => ?_)
  · refine g_iconst K (-1 : Int32) ic_m1 52 dX4_mortgage_51 rfl ?_
    exact gm_iret K hK hcl hr hlk dX4_mortgage_52 rfl
  · refine g_aloadn K 0 rfl rfl 18 dX4_mortgage_17 rfl ?_
    refine g_iloadn K 2 rfl rfl 19 dX4_mortgage_18 rfl ?_
    refine g_iconst K (nI 0) ic_0 20 dX4_mortgage_19 rfl ?_
    refine g_bipush K (nI 50) bp_50 22 dX4_mortgage_20 rfl ?_
    refine gm_call K hK hcl 25 (ct_isIn μ1 x2 (nI 0) (nI 50)) (lw_V q1723 q1725 qs55 q158 q1726) wd_isIn (by decide) rfl (Nat.le_of_ble_eq_true rfl) dX4_mortgage_22 rfl (fun r3 _ => ?_)
    refine g_if_eq K 28 51 dX4_mortgage_25 rfl (by decide) (fun _ => ?_) (fun _ => ?_)
    · refine g_iconst K (-1 : Int32) ic_m1 52 dX4_mortgage_51 rfl ?_
      exact gm_iret K hK hcl hr hlk dX4_mortgage_52 rfl
    · refine g_aloadn K 0 rfl rfl 29 dX4_mortgage_28 rfl ?_
      refine g_iloadn K 3 rfl rfl 30 dX4_mortgage_29 rfl ?_
      refine g_iconst K (nI 1) ic_1 31 dX4_mortgage_30 rfl ?_
      refine g_sipush K (nI 999) sp_999 34 dX4_mortgage_31 rfl ?_
      refine gm_call K hK hcl 37 (ct_isIn μ1 x3 (nI 1) (nI 999)) (lw_V q1723 q1725 qs55 q158 q1726) wd_isIn (by decide) rfl (Nat.le_of_ble_eq_true rfl) dX4_mortgage_34 rfl (fun r4 _ => ?_)
      refine g_if_eq K 40 51 dX4_mortgage_37 rfl (by decide) (fun _ => ?_) (fun _ => ?_)
      · refine g_iconst K (-1 : Int32) ic_m1 52 dX4_mortgage_51 rfl ?_
        exact gm_iret K hK hcl hr hlk dX4_mortgage_52 rfl
      · refine g_aloadn K 0 rfl rfl 41 dX4_mortgage_40 rfl ?_
        refine g_iload K 4 rfl 43 dX4_mortgage_41 rfl ?_
        refine g_iconst K (nI 0) ic_0 44 dX4_mortgage_43 rfl ?_
        refine g_iconst K (nI 1) ic_1 45 dX4_mortgage_44 rfl ?_
        refine gm_call K hK hcl 48 (ct_isIn μ1 x4 (nI 0) (nI 1)) (lw_V q1723 q1725 qs55 q158 q1726) wd_isIn (by decide) rfl (Nat.le_of_ble_eq_true rfl) dX4_mortgage_45 rfl (fun r5 _ => ?_)
        refine g_if_ne K 51 53 dX4_mortgage_48 rfl (by decide) (fun _ => ?_) (fun _ => ?_)
        · refine g_iconst K (-1 : Int32) ic_m1 52 dX4_mortgage_51 rfl ?_
          exact gm_iret K hK hcl hr hlk dX4_mortgage_52 rfl
        · refine g_iloadn K 1 rfl rfl 54 dX4_mortgage_53 rfl ?_
          refine g_istore K [(0, .ref am), (2, .int x2), (3, .int x3), (4, .int x4), (5, .int x1)] [1, 3, 4, 5, 0] (by decide) rfl 56 dX4_mortgage_54 rfl ?_
          refine g_iconst K (nI 0) ic_0 57 dX4_mortgage_56 rfl ?_
          refine g_istore K [(0, .ref am), (2, .int x2), (3, .int x3), (4, .int x4), (5, .int x1), (6, .int (nI 0))] [1, 2, 3, 4, 5, 0] (by decide) rfl 59 dX4_mortgage_57 rfl ?_
          refine g_iconst K (nI 1) ic_1 60 dX4_mortgage_59 rfl ?_
          refine g_istore K [(0, .ref am), (2, .int x2), (3, .int x3), (4, .int x4), (5, .int x1), (6, .int (nI 0)), (7, .int (nI 1))] [1, 2, 3, 4, 5, 6, 0] (by decide) rfl 62 dX4_mortgage_60 rfl ?_
          refine g_jn (head := 108) (L := fun j6 => [(0, .ref am), (4, .int x4), (6, .int j6.1), (7, .int j6.2)]) (sf := fun j6 => []) (mf := fun j6 => μ1) (fun j6 => ?_) (fun k7 h8 => ?_)
          · try dsimp only
            refine g_iload K 1 rfl 110 dX4_mortgage_108 rfl ?_
            refine g_if_ne K 113 118 dX4_mortgage_110 rfl (by decide) (fun _ => ?_) (fun _ => ?_)
            · refine g_iload K 3 rfl 115 dX4_mortgage_113 rfl ?_
              refine g_goto K 120 dX4_mortgage_115 (by decide) ?_
              exact gm_iret K hK hcl hr hlk dX4_mortgage_120 rfl
            · refine g_iload K 2 rfl 120 dX4_mortgage_118 rfl ?_
              exact gm_iret K hK hcl hr hlk dX4_mortgage_120 rfl
          · refine g_lp (head := 62) (L := fun j9 => [(0, .ref am), (2, .int x2), (3, .int x3), (4, .int x4), (5, .int j9.1), (6, .int j9.2.1), (7, .int j9.2.2)]) (sf := fun j9 => []) (mf := fun j9 => μ1) (fun again10 h11 j9 => ?_) fuel (x1, (nI 0), (nI 1))
            try dsimp only
            refine g_iload K 6 rfl 64 dX4_mortgage_62 rfl ?_
            refine g_sipush K (nI 400) sp_400 67 dX4_mortgage_64 rfl ?_
            refine g_icmp_gt K 70 146 dX4_mortgage_67 rfl (by decide) (fun _ => ?_) (fun _ => ?_)
            · refine g_iconst K (-1 : Int32) ic_m1 147 dX4_mortgage_146 rfl ?_
              exact gm_iret K hK hcl hr hlk dX4_mortgage_147 rfl
            · refine g_iload K 4 rfl 72 dX4_mortgage_70 rfl ?_
              refine g_iload K 4 rfl 74 dX4_mortgage_72 rfl ?_
              refine g_iloadn K 1 rfl rfl 75 dX4_mortgage_74 rfl ?_
              refine g_imul K 76 dX4_mortgage_75 rfl ?_
              refine g_bipush K (nI 99) bp_99 78 dX4_mortgage_76 rfl ?_
              refine g_iadd K 79 dX4_mortgage_78 rfl ?_
              refine g_bipush K (nI 100) bp_100 81 dX4_mortgage_79 rfl ?_
              refine g_idiv K 82 dX4_mortgage_81 rfl (fun v12 _ _ => ?_)
              refine g_iadd K 83 dX4_mortgage_82 rfl ?_
              refine g_istore K [(0, .ref am), (2, .int x2), (3, .int x3), (4, .int x4), (5, .int j9.1), (6, .int j9.2.1), (7, .int j9.2.2), (8, .int (j9.1 + v12))] [1, 2, 3, 4, 5, 6, 7, 0] (by decide) rfl 85 dX4_mortgage_83 rfl ?_
              refine g_aloadn K 0 rfl rfl 86 dX4_mortgage_85 rfl ?_
              refine g_iload K 7 rfl 88 dX4_mortgage_86 rfl ?_
              refine g_iloadn K 2 rfl rfl 89 dX4_mortgage_88 rfl ?_
              refine gm_call K hK hcl 92 (ct_lesser μ1 (j9.1 + v12) x3) (lw_V q2025 q2027 qs123 q158 q2028) wd_lesser (by decide) rfl (Nat.le_of_ble_eq_true rfl) dX4_mortgage_89 rfl (fun r13 _ => ?_)
              refine g_istore K [(0, .ref am), (2, .int x2), (3, .int x3), (4, .int x4), (5, .int j9.1), (6, .int j9.2.1), (7, .int j9.2.2), (8, .int (j9.1 + v12)), (9, .int r13)] [1, 2, 3, 4, 5, 6, 7, 8, 0] (by decide) rfl 94 dX4_mortgage_92 rfl ?_
              refine g_iload K 5 rfl 96 dX4_mortgage_94 rfl ?_
              refine g_iload K 8 rfl 98 dX4_mortgage_96 rfl ?_
              refine g_iadd K 99 dX4_mortgage_98 rfl ?_
              refine g_istore K [(0, .ref am), (2, .int x2), (3, .int x3), (4, .int x4), (5, .int j9.1), (6, .int (j9.2.1 + r13)), (7, .int j9.2.2), (8, .int (j9.1 + v12)), (9, .int r13)] [1, 2, 3, 4, 5, 0, 6, 7, 8] (by decide) rfl 101 dX4_mortgage_99 rfl ?_
              refine g_iload K 7 rfl 103 dX4_mortgage_101 rfl ?_
              refine g_iload K 8 rfl 105 dX4_mortgage_103 rfl ?_
              refine g_icmp_ne K 108 121 dX4_mortgage_105 rfl (by decide) (fun _ => ?_) (fun _ => ?_)
              · refine g_sub (ls' := [(0, .ref am), (4, .int x4), (6, .int (j9.2.1 + r13)), (7, .int j9.2.2)]) [0, 3, 5, 6] rfl ?_
                exact h8 ((j9.2.1 + r13), j9.2.2)
              · refine g_iload K 7 rfl 123 dX4_mortgage_121 rfl ?_
                refine g_iload K 8 rfl 125 dX4_mortgage_123 rfl ?_
                refine g_isub K 126 dX4_mortgage_125 rfl ?_
                refine g_iload K 4 rfl 128 dX4_mortgage_126 rfl ?_
                refine g_icmp_lt K 131 133 dX4_mortgage_128 rfl (by decide) (fun _ => ?_) (fun _ => ?_)
                · refine g_iload K 7 rfl 135 dX4_mortgage_133 rfl ?_
                  refine g_iload K 8 rfl 137 dX4_mortgage_135 rfl ?_
                  refine g_isub K 138 dX4_mortgage_137 rfl ?_
                  refine g_nm (fun v14 _ => ?_)
                  refine g_istore K [(0, .ref am), (2, .int x2), (3, .int x3), (4, .int x4), (5, .int v14), (6, .int (j9.2.1 + r13)), (7, .int j9.2.2)] [1, 2, 3, 4, 0, 5, 6] (by decide) rfl 140 dX4_mortgage_138 rfl ?_
                  refine g_iinc K (j9.2.2 + (nI 1)) 6 [(0, .ref am), (2, .int x2), (3, .int x3), (4, .int x4), (5, .int v14), (6, .int (j9.2.1 + r13)), (7, .int (j9.2.2 + (nI 1)))] [1, 2, 3, 4, 5, 6, 0] rfl (by rw [ic_1]) (by decide) rfl 143 dX4_mortgage_140 rfl ?_
                  refine g_goto K 62 dX4_mortgage_143 (by decide) ?_
                  exact h11 (v14, (j9.2.1 + r13), (j9.2.2 + (nI 1)))
                · refine g_iconst K (-1 : Int32) ic_m1 132 dX4_mortgage_131 rfl ?_
                  exact gm_iret K hK hcl hr hlk dX4_mortgage_132 rfl
/-- mark(I)I -/
def m_mark (μ : Mem) (x1 : Int32) : Option (Int32 × Mem) :=
  nm (up2 μ 0 0 (nI 0)) fun μ1 =>
  if x1 = (-1 : Int32) then
  nm (up2 μ1 49 0 (nI 0)) fun μ5 =>
  some ((nI 0), μ5)
  else
  (m_isIn μ1 x1 (nI 1) (nI 60)).bind fun r2 =>
  if (bI r2) = 0 then
  some ((-1 : Int32), μ1)
  else
  if (μ1 49 0) = (nI 5) then
  some ((-1 : Int32), μ1)
  else
  (wr μ1 50 5 (μ1 49 0) x1).bind fun μ3 =>
  nm (up2 μ3 49 0 ((μ3 49 0) + (nI 1))) fun μ4 =>
  some ((μ4 49 0), μ4)
theorem wd_mark : yX4_mark.cls = RX4 ∧ yX4_mark.cls ≠ "java/lang/invoke/MethodHandle" ∧ yX4_mark.cls ≠ "java/lang/invoke/VarHandle" ∧ (parseMethodDescriptor yX4_mark.desc).map (fun d => d.parameters.length) = some 1 := by decide +kernel
set_option maxRecDepth 100000 in
theorem ct_mark (μ : Mem) (x1 : Int32) : CtM yX4_mark cX4_mark 2 (some .int) 1 23 [.int x1] μ (fun r => (some (.int r.1), r.2)) (m_mark μ x1) := by
  refine CtM.of (by decide) rfl (fun _ => Nat.le_of_ble_eq_true rfl) ?_
  intro l D cl ci cA am p e s m args below meth c hcl K hr hlk hK
  refine g_sub (ls' := [(0, .ref am), (1, .int x1)]) [0, 1] rfl ?_
  unfold m_mark
  refine g_aloadn K 0 rfl rfl 1 dX4_mark_0 rfl ?_
  refine g_iconst K (nI 0) ic_0 2 dX4_mark_1 rfl ?_
  refine gm_put K hK hcl 0 (ty := .int) 5 (by decide) q1485 rfl (by decide +kernel) rfl rfl rfl dX4_mark_2 rfl (fun μ1 _ => ?_)
  refine g_iloadn K 1 rfl rfl 6 dX4_mark_5 rfl ?_
  refine g_iconst K (-1 : Int32) ic_m1 7 dX4_mark_6 rfl ?_
  refine g_icmp_ne K 10 17 dX4_mark_7 rfl (by decide) (fun _ => ?_) (fun _ => ?_)
  · refine g_aloadn K 0 rfl rfl 11 dX4_mark_10 rfl ?_
    refine g_iconst K (nI 0) ic_0 12 dX4_mark_11 rfl ?_
    refine gm_put K hK hcl 49 (ty := .int) 15 (by decide) q1534 rfl (by decide +kernel) rfl rfl rfl dX4_mark_12 rfl (fun μ5 _ => ?_)
    refine g_iconst K (nI 0) ic_0 16 dX4_mark_15 rfl ?_
    exact gm_iret K hK hcl hr hlk dX4_mark_16 rfl
  · refine g_aloadn K 0 rfl rfl 18 dX4_mark_17 rfl ?_
    refine g_iloadn K 1 rfl rfl 19 dX4_mark_18 rfl ?_
    refine g_iconst K (nI 1) ic_1 20 dX4_mark_19 rfl ?_
    refine g_bipush K (nI 60) bp_60 22 dX4_mark_20 rfl ?_
    refine gm_call K hK hcl 25 (ct_isIn μ1 x1 (nI 1) (nI 60)) (lw_V q1723 q1725 qs55 q158 q1726) wd_isIn (by decide) rfl (Nat.le_of_ble_eq_true rfl) dX4_mark_22 rfl (fun r2 _ => ?_)
    refine g_if_eq K 28 36 dX4_mark_25 rfl (by decide) (fun _ => ?_) (fun _ => ?_)
    · refine g_iconst K (-1 : Int32) ic_m1 37 dX4_mark_36 rfl ?_
      exact gm_iret K hK hcl hr hlk dX4_mark_37 rfl
    · refine g_aloadn K 0 rfl rfl 29 dX4_mark_28 rfl ?_
      refine gm_get K hK hcl 49 32 (by decide) q1534 rfl dX4_mark_29 rfl ?_
      refine g_iconst K (nI 5) ic_5 33 dX4_mark_32 rfl ?_
      refine g_icmp_ne K 36 38 dX4_mark_33 rfl (by decide) (fun _ => ?_) (fun _ => ?_)
      · refine g_iconst K (-1 : Int32) ic_m1 37 dX4_mark_36 rfl ?_
        exact gm_iret K hK hcl hr hlk dX4_mark_37 rfl
      · refine g_aloadn K 0 rfl rfl 39 dX4_mark_38 rfl ?_
        refine gm_get K hK hcl 50 42 (by decide) q1535 rfl dX4_mark_39 rfl ?_
        refine g_aloadn K 0 rfl rfl 43 dX4_mark_42 rfl ?_
        refine gm_get K hK hcl 49 46 (by decide) q1534 rfl dX4_mark_43 rfl ?_
        refine g_iloadn K 1 rfl rfl 47 dX4_mark_46 rfl ?_
        refine gm_ast K hK hcl 50 28 5 48 rfl (fun _ => rfl) dX4_mark_47 rfl (fun μ3 _ => ?_)
        refine g_aloadn K 0 rfl rfl 49 dX4_mark_48 rfl ?_
        refine g_aloadn K 0 rfl rfl 50 dX4_mark_49 rfl ?_
        refine gm_get K hK hcl 49 53 (by decide) q1534 rfl dX4_mark_50 rfl ?_
        refine g_iconst K (nI 1) ic_1 54 dX4_mark_53 rfl ?_
        refine g_iadd K 55 dX4_mark_54 rfl ?_
        refine gm_put K hK hcl 49 (ty := .int) 58 (by decide) q1534 rfl (by decide +kernel) rfl rfl rfl dX4_mark_55 rfl (fun μ4 _ => ?_)
        refine g_aloadn K 0 rfl rfl 59 dX4_mark_58 rfl ?_
        refine gm_get K hK hcl 49 62 (by decide) q1534 rfl dX4_mark_59 rfl ?_
        exact gm_iret K hK hcl hr hlk dX4_mark_62 rfl
/-- apart(II)I -/
def m_apart (μ : Mem) (x1 : Int32) (x2 : Int32) : Option (Int32) :=
  if x1 ≤ x2 then
  some (x2 - x1)
  else
  some (x1 - x2)
theorem wd_apart : yX4_apart.cls = RX4 ∧ yX4_apart.cls ≠ "java/lang/invoke/MethodHandle" ∧ yX4_apart.cls ≠ "java/lang/invoke/VarHandle" ∧ (parseMethodDescriptor yX4_apart.desc).map (fun d => d.parameters.length) = some 2 := by decide +kernel
set_option maxRecDepth 100000 in
theorem ct_apart (μ : Mem) (x1 : Int32) (x2 : Int32) : CtM yX4_apart cX4_apart 3 (some .int) 0 0 [.int x1, .int x2] μ (fun r => (some (.int r), μ)) (m_apart μ x1 x2) := by
  refine CtM.of (by decide) rfl (fun _ => Nat.le_of_ble_eq_true rfl) ?_
  intro l D cl ci cA am p e s m args below meth c hcl K hr hlk hK
  refine g_sub (ls' := [(0, .ref am), (1, .int x1), (2, .int x2)]) [0, 1, 2] rfl ?_
  unfold m_apart
  refine g_iloadn K 1 rfl rfl 1 dX4_apart_0 rfl ?_
  refine g_iloadn K 2 rfl rfl 2 dX4_apart_1 rfl ?_
  refine g_icmp_le K 5 11 dX4_apart_2 rfl (by decide) (fun _ => ?_) (fun _ => ?_)
  · refine g_iloadn K 2 rfl rfl 12 dX4_apart_11 rfl ?_
    refine g_iloadn K 1 rfl rfl 13 dX4_apart_12 rfl ?_
    refine g_isub K 14 dX4_apart_13 rfl ?_
    exact gm_iret K hK hcl hr hlk dX4_apart_14 rfl
  · refine g_iloadn K 1 rfl rfl 6 dX4_apart_5 rfl ?_
    refine g_iloadn K 2 rfl rfl 7 dX4_apart_6 rfl ?_
    refine g_isub K 8 dX4_apart_7 rfl ?_
    refine g_goto K 14 dX4_apart_8 (by decide) ?_
    exact gm_iret K hK hcl hr hlk dX4_apart_14 rfl
/-- isMeasured(I)Z -/
def m_isMeasured (μ : Mem) (x1 : Int32) : Option (Bool) :=
  lp (fun again2 (j1 : Int32) =>
  if (μ 49 0) ≤ j1 then
  some false
  else
  (rd μ 50 5 j1).bind fun v4 =>
  if v4 = x1 then
  some true
  else
  lp (fun again6 (j5 : Int32) =>
  if j1 ≤ j5 then
  again2 (j1 + (nI 1))
  else
  (rd μ 50 5 j1).bind fun v8 =>
  (rd μ 50 5 j5).bind fun v9 =>
  (m_apart μ v8 v9).bind fun r10 =>
  if r10 = x1 then
  some true
  else
  again6 (j5 + (nI 1))) fuel (nI 0)) fuel (nI 0)
theorem wd_isMeasured : yX4_isMeasured.cls = RX4 ∧ yX4_isMeasured.cls ≠ "java/lang/invoke/MethodHandle" ∧ yX4_isMeasured.cls ≠ "java/lang/invoke/VarHandle" ∧ (parseMethodDescriptor yX4_isMeasured.desc).map (fun d => d.parameters.length) = some 1 := by decide +kernel
set_option maxRecDepth 100000 in
theorem ct_isMeasured (μ : Mem) (x1 : Int32) : CtM yX4_isMeasured cX4_isMeasured 4 (some .boolean) 1 22 [.int x1] μ (fun r => (some (.int (bI r)), μ)) (m_isMeasured μ x1) := by
  refine CtM.of (by decide) rfl (fun _ => Nat.le_of_ble_eq_true rfl) ?_
  intro l D cl ci cA am p e s m args below meth c hcl K hr hlk hK
  refine g_sub (ls' := [(0, .ref am), (1, .int x1)]) [0, 1] rfl ?_
  unfold m_isMeasured
  refine g_iconst K (nI 0) ic_0 1 dX4_isMeasured_0 rfl ?_
  refine g_istoren K [(0, .ref am), (1, .int x1), (2, .int (nI 0))] [1, 2, 0] rfl (by decide) rfl 2 dX4_isMeasured_1 rfl ?_
  refine g_lp (head := 2) (L := fun j1 => [(0, .ref am), (1, .int x1), (2, .int j1)]) (sf := fun j1 => []) (mf := fun j1 => μ) (fun again2 h3 j1 => ?_) fuel (nI 0)
  try dsimp only
  refine g_iloadn K 2 rfl rfl 3 dX4_isMeasured_2 rfl ?_
  refine g_aloadn K 0 rfl rfl 4 dX4_isMeasured_3 rfl ?_
  refine gm_get K hK hcl 49 7 (by decide) q1534 rfl dX4_isMeasured_4 rfl ?_
  refine g_icmp_ge K 10 63 dX4_isMeasured_7 rfl (by decide) (fun _ => ?_) (fun _ => ?_)
  · refine g_iconst K (nI 0) ic_0 64 dX4_isMeasured_63 rfl ?_
    exact gm_zret K hK hcl hr hlk (b := false) dX4_isMeasured_64 rfl rfl
  · refine g_aloadn K 0 rfl rfl 11 dX4_isMeasured_10 rfl ?_
    refine gm_get K hK hcl 50 14 (by decide) q1535 rfl dX4_isMeasured_11 rfl ?_
    refine g_iloadn K 2 rfl rfl 15 dX4_isMeasured_14 rfl ?_
    refine gm_ald K hK hcl 50 28 5 16 rfl dX4_isMeasured_15 rfl (fun v4 _ => ?_)
    refine g_iloadn K 1 rfl rfl 17 dX4_isMeasured_16 rfl ?_
    refine g_icmp_ne K 20 22 dX4_isMeasured_17 rfl (by decide) (fun _ => ?_) (fun _ => ?_)
    · refine g_iconst K (nI 1) ic_1 21 dX4_isMeasured_20 rfl ?_
      exact gm_zret K hK hcl hr hlk (b := true) dX4_isMeasured_21 rfl rfl
    · refine g_iconst K (nI 0) ic_0 23 dX4_isMeasured_22 rfl ?_
      refine g_istoren K [(0, .ref am), (1, .int x1), (2, .int j1), (3, .int (nI 0))] [1, 2, 3, 0] rfl (by decide) rfl 24 dX4_isMeasured_23 rfl ?_
      refine g_lp (head := 24) (L := fun j5 => [(0, .ref am), (1, .int x1), (2, .int j1), (3, .int j5)]) (sf := fun j5 => []) (mf := fun j5 => μ) (fun again6 h7 j5 => ?_) fuel (nI 0)
      try dsimp only
      refine g_iloadn K 3 rfl rfl 25 dX4_isMeasured_24 rfl ?_
      refine g_iloadn K 2 rfl rfl 26 dX4_isMeasured_25 rfl ?_
      refine g_icmp_ge K 29 57 dX4_isMeasured_26 rfl (by decide) (fun _ => ?_) (fun _ => ?_)
      · refine g_iinc K (j1 + (nI 1)) 2 [(0, .ref am), (1, .int x1), (2, .int (j1 + (nI 1)))] [1, 2, 0] rfl (by rw [ic_1]) (by decide) rfl 60 dX4_isMeasured_57 rfl ?_
        refine g_goto K 2 dX4_isMeasured_60 (by decide) ?_
        exact h3 (j1 + (nI 1))
      · refine g_aloadn K 0 rfl rfl 30 dX4_isMeasured_29 rfl ?_
        refine g_aloadn K 0 rfl rfl 31 dX4_isMeasured_30 rfl ?_
        refine gm_get K hK hcl 50 34 (by decide) q1535 rfl dX4_isMeasured_31 rfl ?_
        refine g_iloadn K 2 rfl rfl 35 dX4_isMeasured_34 rfl ?_
        refine gm_ald K hK hcl 50 28 5 36 rfl dX4_isMeasured_35 rfl (fun v8 _ => ?_)
        refine g_aloadn K 0 rfl rfl 37 dX4_isMeasured_36 rfl ?_
        refine gm_get K hK hcl 50 40 (by decide) q1535 rfl dX4_isMeasured_37 rfl ?_
        refine g_iloadn K 3 rfl rfl 41 dX4_isMeasured_40 rfl ?_
        refine gm_ald K hK hcl 50 28 5 42 rfl dX4_isMeasured_41 rfl (fun v9 _ => ?_)
        refine gm_call K hK hcl 45 (ct_apart μ v8 v9) (lw_V q2138 q2140 qs137 q158 q2141) wd_apart (by decide) rfl (Nat.le_of_ble_eq_true rfl) dX4_isMeasured_42 rfl (fun r10 _ => ?_)
        refine g_iloadn K 1 rfl rfl 46 dX4_isMeasured_45 rfl ?_
        refine g_icmp_ne K 49 51 dX4_isMeasured_46 rfl (by decide) (fun _ => ?_) (fun _ => ?_)
        · refine g_iconst K (nI 1) ic_1 50 dX4_isMeasured_49 rfl ?_
          exact gm_zret K hK hcl hr hlk (b := true) dX4_isMeasured_50 rfl rfl
        · refine g_iinc K (j5 + (nI 1)) 3 [(0, .ref am), (1, .int x1), (2, .int j1), (3, .int (j5 + (nI 1)))] [1, 2, 3, 0] rfl (by rw [ic_1]) (by decide) rfl 54 dX4_isMeasured_51 rfl ?_
          refine g_goto K 24 dX4_isMeasured_54 (by decide) ?_
          exact h7 (j5 + (nI 1))
/-- measures(I)I -/
def m_measures (μ : Mem) (x1 : Int32) : Option (Int32 × Mem) :=
  nm (up2 μ 0 0 (nI 0)) fun μ1 =>
  (m_isIn μ1 x1 (nI 0) (nI 1)).bind fun r2 =>
  if (bI r2) = 0 then
  some ((-1 : Int32), μ1)
  else
  jn (fun (j3 : Int32) =>
  if x1 = 0 then
  some (j3, μ1)
  else
  some ((-1 : Int32), μ1)) (fun k4 =>
  lp (fun again7 (j6 : Int32 × Int32) =>
  if (nI 60) < j6.2 then
  k4 j6.1
  else
  (m_isMeasured μ1 j6.2).bind fun r9 =>
  if (bI r9) = 0 then
  if x1 = (nI 1) then
  some (j6.2, μ1)
  else
  again7 (j6.1, (j6.2 + (nI 1)))
  else
  again7 ((j6.1 + (nI 1)), (j6.2 + (nI 1)))) fuel ((nI 0), (nI 1)))
theorem wd_measures : yX4_measures.cls = RX4 ∧ yX4_measures.cls ≠ "java/lang/invoke/MethodHandle" ∧ yX4_measures.cls ≠ "java/lang/invoke/VarHandle" ∧ (parseMethodDescriptor yX4_measures.desc).map (fun d => d.parameters.length) = some 1 := by decide +kernel
set_option maxRecDepth 100000 in
theorem ct_measures (μ : Mem) (x1 : Int32) : CtM yX4_measures cX4_measures 4 (some .int) 2 45 [.int x1] μ (fun r => (some (.int r.1), r.2)) (m_measures μ x1) := by
  refine CtM.of (by decide) rfl (fun _ => Nat.le_of_ble_eq_true rfl) ?_
  intro l D cl ci cA am p e s m args below meth c hcl K hr hlk hK
  refine g_sub (ls' := [(0, .ref am), (1, .int x1)]) [0, 1] rfl ?_
  unfold m_measures
  refine g_aloadn K 0 rfl rfl 1 dX4_measures_0 rfl ?_
  refine g_iconst K (nI 0) ic_0 2 dX4_measures_1 rfl ?_
  refine gm_put K hK hcl 0 (ty := .int) 5 (by decide) q1485 rfl (by decide +kernel) rfl rfl rfl dX4_measures_2 rfl (fun μ1 _ => ?_)
  refine g_aloadn K 0 rfl rfl 6 dX4_measures_5 rfl ?_
  refine g_iloadn K 1 rfl rfl 7 dX4_measures_6 rfl ?_
  refine g_iconst K (nI 0) ic_0 8 dX4_measures_7 rfl ?_
  refine g_iconst K (nI 1) ic_1 9 dX4_measures_8 rfl ?_
  refine gm_call K hK hcl 12 (ct_isIn μ1 x1 (nI 0) (nI 1)) (lw_V q1723 q1725 qs55 q158 q1726) wd_isIn (by decide) rfl (Nat.le_of_ble_eq_true rfl) dX4_measures_9 rfl (fun r2 _ => ?_)
  refine g_if_ne K 15 17 dX4_measures_12 rfl (by decide) (fun _ => ?_) (fun _ => ?_)
  · refine g_iconst K (-1 : Int32) ic_m1 16 dX4_measures_15 rfl ?_
    exact gm_iret K hK hcl hr hlk dX4_measures_16 rfl
  · refine g_iconst K (nI 0) ic_0 18 dX4_measures_17 rfl ?_
    refine g_istoren K [(0, .ref am), (1, .int x1), (2, .int (nI 0))] [1, 2, 0] rfl (by decide) rfl 19 dX4_measures_18 rfl ?_
    refine g_iconst K (nI 1) ic_1 20 dX4_measures_19 rfl ?_
    refine g_istoren K [(0, .ref am), (1, .int x1), (2, .int (nI 0)), (3, .int (nI 1))] [1, 2, 3, 0] rfl (by decide) rfl 21 dX4_measures_20 rfl ?_
    refine g_jn (head := 55) (L := fun j3 => [(0, .ref am), (1, .int x1), (2, .int j3)]) (sf := fun j3 => []) (mf := fun j3 => μ1) (fun j3 => ?_) (fun k4 h5 => ?_)
    · try dsimp only
      refine g_iloadn K 1 rfl rfl 56 dX4_measures_55 rfl ?_
      refine g_if_ne K 59 63 dX4_measures_56 rfl (by decide) (fun _ => ?_) (fun _ => ?_)
      · refine g_iloadn K 2 rfl rfl 60 dX4_measures_59 rfl ?_
        refine g_goto K 64 dX4_measures_60 (by decide) ?_
        exact gm_iret K hK hcl hr hlk dX4_measures_64 rfl
      · refine g_iconst K (-1 : Int32) ic_m1 64 dX4_measures_63 rfl ?_
        exact gm_iret K hK hcl hr hlk dX4_measures_64 rfl
    · refine g_lp (head := 21) (L := fun j6 => [(0, .ref am), (1, .int x1), (2, .int j6.1), (3, .int j6.2)]) (sf := fun j6 => []) (mf := fun j6 => μ1) (fun again7 h8 j6 => ?_) fuel ((nI 0), (nI 1))
      try dsimp only
      refine g_iloadn K 3 rfl rfl 22 dX4_measures_21 rfl ?_
      refine g_bipush K (nI 60) bp_60 24 dX4_measures_22 rfl ?_
      refine g_icmp_gt K 27 55 dX4_measures_24 rfl (by decide) (fun _ => ?_) (fun _ => ?_)
      · refine g_sub (ls' := [(0, .ref am), (1, .int x1), (2, .int j6.1)]) [0, 1, 2] rfl ?_
        exact h5 j6.1
      · refine g_aloadn K 0 rfl rfl 28 dX4_measures_27 rfl ?_
        refine g_iloadn K 3 rfl rfl 29 dX4_measures_28 rfl ?_
        refine gm_call K hK hcl 32 (ct_isMeasured μ1 j6.2) (lw_V q2134 q2136 qs136 q158 q2137) wd_isMeasured (by decide) rfl (Nat.le_of_ble_eq_true rfl) dX4_measures_29 rfl (fun r9 _ => ?_)
        refine g_if_eq K 35 42 dX4_measures_32 rfl (by decide) (fun _ => ?_) (fun _ => ?_)
        · refine g_iloadn K 1 rfl rfl 43 dX4_measures_42 rfl ?_
          refine g_iconst K (nI 1) ic_1 44 dX4_measures_43 rfl ?_
          refine g_icmp_ne K 47 49 dX4_measures_44 rfl (by decide) (fun _ => ?_) (fun _ => ?_)
          · refine g_iloadn K 3 rfl rfl 48 dX4_measures_47 rfl ?_
            exact gm_iret K hK hcl hr hlk dX4_measures_48 rfl
          · refine g_iinc K (j6.2 + (nI 1)) 3 [(0, .ref am), (1, .int x1), (2, .int j6.1), (3, .int (j6.2 + (nI 1)))] [1, 2, 3, 0] rfl (by rw [ic_1]) (by decide) rfl 52 dX4_measures_49 rfl ?_
            refine g_goto K 21 dX4_measures_52 (by decide) ?_
            exact h8 (j6.1, (j6.2 + (nI 1)))
        · refine g_iloadn K 2 rfl rfl 36 dX4_measures_35 rfl ?_
          refine g_iconst K (nI 1) ic_1 37 dX4_measures_36 rfl ?_
          refine g_iadd K 38 dX4_measures_37 rfl ?_
          refine g_istoren K [(0, .ref am), (1, .int x1), (2, .int (j6.1 + (nI 1))), (3, .int j6.2)] [1, 2, 0, 3] rfl (by decide) rfl 39 dX4_measures_38 rfl ?_
          refine g_goto K 49 dX4_measures_39 (by decide) ?_
          refine g_iinc K (j6.2 + (nI 1)) 3 [(0, .ref am), (1, .int x1), (2, .int (j6.1 + (nI 1))), (3, .int (j6.2 + (nI 1)))] [1, 2, 3, 0] rfl (by rw [ic_1]) (by decide) rfl 52 dX4_measures_49 rfl ?_
          refine g_goto K 21 dX4_measures_52 (by decide) ?_
          exact h8 ((j6.1 + (nI 1)), (j6.2 + (nI 1)))
/-- bite(II)I -/
def m_bite (μ : Mem) (x1 : Int32) (x2 : Int32) : Option (Int32 × Mem) :=
  nm (up2 μ 0 0 (nI 0)) fun μ1 =>
  if x1 = (-1 : Int32) then
  nm (up2 μ1 51 0 (nI 0)) fun μ7 =>
  some ((nI 0), μ7)
  else
  (m_isIn μ1 x1 (nI 0) (nI 255)).bind fun r2 =>
  if (bI r2) = 0 then
  some ((-1 : Int32), μ1)
  else
  (m_isIn μ1 x2 (nI 0) (nI 9)).bind fun r3 =>
  if (bI r3) = 0 then
  some ((-1 : Int32), μ1)
  else
  if (μ1 51 0) = (nI 8) then
  some ((-1 : Int32), μ1)
  else
  (wr μ1 52 8 (μ1 51 0) x1).bind fun μ4 =>
  (wr μ4 53 8 (μ4 51 0) x2).bind fun μ5 =>
  nm (up2 μ5 51 0 ((μ5 51 0) + (nI 1))) fun μ6 =>
  some ((μ6 51 0), μ6)
theorem wd_bite : yX4_bite.cls = RX4 ∧ yX4_bite.cls ≠ "java/lang/invoke/MethodHandle" ∧ yX4_bite.cls ≠ "java/lang/invoke/VarHandle" ∧ (parseMethodDescriptor yX4_bite.desc).map (fun d => d.parameters.length) = some 2 := by decide +kernel
set_option maxRecDepth 100000 in
theorem ct_bite (μ : Mem) (x1 : Int32) (x2 : Int32) : CtM yX4_bite cX4_bite 3 (some .int) 1 23 [.int x1, .int x2] μ (fun r => (some (.int r.1), r.2)) (m_bite μ x1 x2) := by
  refine CtM.of (by decide) rfl (fun _ => Nat.le_of_ble_eq_true rfl) ?_
  intro l D cl ci cA am p e s m args below meth c hcl K hr hlk hK
  refine g_sub (ls' := [(0, .ref am), (1, .int x1), (2, .int x2)]) [0, 1, 2] rfl ?_
  unfold m_bite
  refine g_aloadn K 0 rfl rfl 1 dX4_bite_0 rfl ?_
  refine g_iconst K (nI 0) ic_0 2 dX4_bite_1 rfl ?_
  refine gm_put K hK hcl 0 (ty := .int) 5 (by decide) q1485 rfl (by decide +kernel) rfl rfl rfl dX4_bite_2 rfl (fun μ1 _ => ?_)
  refine g_iloadn K 1 rfl rfl 6 dX4_bite_5 rfl ?_
  refine g_iconst K (-1 : Int32) ic_m1 7 dX4_bite_6 rfl ?_
  refine g_icmp_ne K 10 17 dX4_bite_7 rfl (by decide) (fun _ => ?_) (fun _ => ?_)
  · refine g_aloadn K 0 rfl rfl 11 dX4_bite_10 rfl ?_
    refine g_iconst K (nI 0) ic_0 12 dX4_bite_11 rfl ?_
    refine gm_put K hK hcl 51 (ty := .int) 15 (by decide) q1536 rfl (by decide +kernel) rfl rfl rfl dX4_bite_12 rfl (fun μ7 _ => ?_)
    refine g_iconst K (nI 0) ic_0 16 dX4_bite_15 rfl ?_
    exact gm_iret K hK hcl hr hlk dX4_bite_16 rfl
  · refine g_aloadn K 0 rfl rfl 18 dX4_bite_17 rfl ?_
    refine g_iloadn K 1 rfl rfl 19 dX4_bite_18 rfl ?_
    refine g_iconst K (nI 0) ic_0 20 dX4_bite_19 rfl ?_
    refine g_sipush K (nI 255) sp_255 23 dX4_bite_20 rfl ?_
    refine gm_call K hK hcl 26 (ct_isIn μ1 x1 (nI 0) (nI 255)) (lw_V q1723 q1725 qs55 q158 q1726) wd_isIn (by decide) rfl (Nat.le_of_ble_eq_true rfl) dX4_bite_23 rfl (fun r2 _ => ?_)
    refine g_if_eq K 29 49 dX4_bite_26 rfl (by decide) (fun _ => ?_) (fun _ => ?_)
    · refine g_iconst K (-1 : Int32) ic_m1 50 dX4_bite_49 rfl ?_
      exact gm_iret K hK hcl hr hlk dX4_bite_50 rfl
    · refine g_aloadn K 0 rfl rfl 30 dX4_bite_29 rfl ?_
      refine g_iloadn K 2 rfl rfl 31 dX4_bite_30 rfl ?_
      refine g_iconst K (nI 0) ic_0 32 dX4_bite_31 rfl ?_
      refine g_bipush K (nI 9) bp_9 34 dX4_bite_32 rfl ?_
      refine gm_call K hK hcl 37 (ct_isIn μ1 x2 (nI 0) (nI 9)) (lw_V q1723 q1725 qs55 q158 q1726) wd_isIn (by decide) rfl (Nat.le_of_ble_eq_true rfl) dX4_bite_34 rfl (fun r3 _ => ?_)
      refine g_if_eq K 40 49 dX4_bite_37 rfl (by decide) (fun _ => ?_) (fun _ => ?_)
      · refine g_iconst K (-1 : Int32) ic_m1 50 dX4_bite_49 rfl ?_
        exact gm_iret K hK hcl hr hlk dX4_bite_50 rfl
      · refine g_aloadn K 0 rfl rfl 41 dX4_bite_40 rfl ?_
        refine gm_get K hK hcl 51 44 (by decide) q1536 rfl dX4_bite_41 rfl ?_
        refine g_bipush K (nI 8) bp_8 46 dX4_bite_44 rfl ?_
        refine g_icmp_ne K 49 51 dX4_bite_46 rfl (by decide) (fun _ => ?_) (fun _ => ?_)
        · refine g_iconst K (-1 : Int32) ic_m1 50 dX4_bite_49 rfl ?_
          exact gm_iret K hK hcl hr hlk dX4_bite_50 rfl
        · refine g_aloadn K 0 rfl rfl 52 dX4_bite_51 rfl ?_
          refine gm_get K hK hcl 52 55 (by decide) q1537 rfl dX4_bite_52 rfl ?_
          refine g_aloadn K 0 rfl rfl 56 dX4_bite_55 rfl ?_
          refine gm_get K hK hcl 51 59 (by decide) q1536 rfl dX4_bite_56 rfl ?_
          refine g_iloadn K 1 rfl rfl 60 dX4_bite_59 rfl ?_
          refine gm_ast K hK hcl 52 29 8 61 rfl (fun _ => rfl) dX4_bite_60 rfl (fun μ4 _ => ?_)
          refine g_aloadn K 0 rfl rfl 62 dX4_bite_61 rfl ?_
          refine gm_get K hK hcl 53 65 (by decide) q1538 rfl dX4_bite_62 rfl ?_
          refine g_aloadn K 0 rfl rfl 66 dX4_bite_65 rfl ?_
          refine gm_get K hK hcl 51 69 (by decide) q1536 rfl dX4_bite_66 rfl ?_
          refine g_iloadn K 2 rfl rfl 70 dX4_bite_69 rfl ?_
          refine gm_ast K hK hcl 53 30 8 71 rfl (fun _ => rfl) dX4_bite_70 rfl (fun μ5 _ => ?_)
          refine g_aloadn K 0 rfl rfl 72 dX4_bite_71 rfl ?_
          refine g_aloadn K 0 rfl rfl 73 dX4_bite_72 rfl ?_
          refine gm_get K hK hcl 51 76 (by decide) q1536 rfl dX4_bite_73 rfl ?_
          refine g_iconst K (nI 1) ic_1 77 dX4_bite_76 rfl ?_
          refine g_iadd K 78 dX4_bite_77 rfl ?_
          refine gm_put K hK hcl 51 (ty := .int) 81 (by decide) q1536 rfl (by decide +kernel) rfl rfl rfl dX4_bite_78 rfl (fun μ6 _ => ?_)
          refine g_aloadn K 0 rfl rfl 82 dX4_bite_81 rfl ?_
          refine gm_get K hK hcl 51 85 (by decide) q1536 rfl dX4_bite_82 rfl ?_
          exact gm_iret K hK hcl hr hlk dX4_bite_85 rfl
/-- whose(II)I -/
def m_whose (μ : Mem) (x1 : Int32) (x2 : Int32) : Option (Int32 × Mem) :=
  nm (up2 μ 0 0 (nI 0)) fun μ1 =>
  (m_isIn μ1 x1 (nI 0) (nI 255)).bind fun r2 =>
  if (bI r2) = 0 then
  some ((-1 : Int32), μ1)
  else
  (m_isIn μ1 x2 (nI 0) (nI 9)).bind fun r3 =>
  if (bI r3) = 0 then
  some ((-1 : Int32), μ1)
  else
  lp (fun again5 (j4 : Int32 × Int32) =>
  if (μ1 51 0) ≤ j4.2 then
  some (j4.1, μ1)
  else
  (rd μ1 52 8 j4.2).bind fun v7 =>
  if (x1 &&& (v7 ^^^ (-1 : Int32))) = 0 then
  (rd μ1 53 8 j4.2).bind fun v8 =>
  if v8 < x2 then
  again5 (j4.1, (j4.2 + (nI 1)))
  else
  nm (j4.1 ||| ((nI 1) <<< (j4.2 &&& 31))) fun v9 =>
  again5 (v9, (j4.2 + (nI 1)))
  else
  again5 (j4.1, (j4.2 + (nI 1)))) fuel ((nI 0), (nI 0))
theorem wd_whose : yX4_whose.cls = RX4 ∧ yX4_whose.cls ≠ "java/lang/invoke/MethodHandle" ∧ yX4_whose.cls ≠ "java/lang/invoke/VarHandle" ∧ (parseMethodDescriptor yX4_whose.desc).map (fun d => d.parameters.length) = some 2 := by decide +kernel
set_option maxRecDepth 100000 in
theorem ct_whose (μ : Mem) (x1 : Int32) (x2 : Int32) : CtM yX4_whose cX4_whose 5 (some .int) 1 23 [.int x1, .int x2] μ (fun r => (some (.int r.1), r.2)) (m_whose μ x1 x2) := by
  refine CtM.of (by decide) rfl (fun _ => Nat.le_of_ble_eq_true rfl) ?_
  intro l D cl ci cA am p e s m args below meth c hcl K hr hlk hK
  refine g_sub (ls' := [(0, .ref am), (1, .int x1), (2, .int x2)]) [0, 1, 2] rfl ?_
  unfold m_whose
  refine g_aloadn K 0 rfl rfl 1 dX4_whose_0 rfl ?_
  refine g_iconst K (nI 0) ic_0 2 dX4_whose_1 rfl ?_
  refine gm_put K hK hcl 0 (ty := .int) 5 (by decide) q1485 rfl (by decide +kernel) rfl rfl rfl dX4_whose_2 rfl (fun μ1 _ => ?_)
  refine g_aloadn K 0 rfl rfl 6 dX4_whose_5 rfl ?_
  refine g_iloadn K 1 rfl rfl 7 dX4_whose_6 rfl ?_
  refine g_iconst K (nI 0) ic_0 8 dX4_whose_7 rfl ?_
  refine g_sipush K (nI 255) sp_255 11 dX4_whose_8 rfl ?_
  refine gm_call K hK hcl 14 (ct_isIn μ1 x1 (nI 0) (nI 255)) (lw_V q1723 q1725 qs55 q158 q1726) wd_isIn (by decide) rfl (Nat.le_of_ble_eq_true rfl) dX4_whose_11 rfl (fun r2 _ => ?_)
  refine g_if_eq K 17 28 dX4_whose_14 rfl (by decide) (fun _ => ?_) (fun _ => ?_)
  · refine g_iconst K (-1 : Int32) ic_m1 29 dX4_whose_28 rfl ?_
    exact gm_iret K hK hcl hr hlk dX4_whose_29 rfl
  · refine g_aloadn K 0 rfl rfl 18 dX4_whose_17 rfl ?_
    refine g_iloadn K 2 rfl rfl 19 dX4_whose_18 rfl ?_
    refine g_iconst K (nI 0) ic_0 20 dX4_whose_19 rfl ?_
    refine g_bipush K (nI 9) bp_9 22 dX4_whose_20 rfl ?_
    refine gm_call K hK hcl 25 (ct_isIn μ1 x2 (nI 0) (nI 9)) (lw_V q1723 q1725 qs55 q158 q1726) wd_isIn (by decide) rfl (Nat.le_of_ble_eq_true rfl) dX4_whose_22 rfl (fun r3 _ => ?_)
    refine g_if_ne K 28 30 dX4_whose_25 rfl (by decide) (fun _ => ?_) (fun _ => ?_)
    · refine g_iconst K (-1 : Int32) ic_m1 29 dX4_whose_28 rfl ?_
      exact gm_iret K hK hcl hr hlk dX4_whose_29 rfl
    · refine g_iconst K (nI 0) ic_0 31 dX4_whose_30 rfl ?_
      refine g_istoren K [(0, .ref am), (1, .int x1), (2, .int x2), (3, .int (nI 0))] [1, 2, 3, 0] rfl (by decide) rfl 32 dX4_whose_31 rfl ?_
      refine g_iconst K (nI 0) ic_0 33 dX4_whose_32 rfl ?_
      refine g_istore K [(0, .ref am), (1, .int x1), (2, .int x2), (3, .int (nI 0)), (4, .int (nI 0))] [1, 2, 3, 4, 0] (by decide) rfl 35 dX4_whose_33 rfl ?_
      refine g_lp (head := 35) (L := fun j4 => [(0, .ref am), (1, .int x1), (2, .int x2), (3, .int j4.1), (4, .int j4.2)]) (sf := fun j4 => []) (mf := fun j4 => μ1) (fun again5 h6 j4 => ?_) fuel ((nI 0), (nI 0))
      try dsimp only
      refine g_iload K 4 rfl 37 dX4_whose_35 rfl ?_
      refine g_aloadn K 0 rfl rfl 38 dX4_whose_37 rfl ?_
      refine gm_get K hK hcl 51 41 (by decide) q1536 rfl dX4_whose_38 rfl ?_
      refine g_icmp_ge K 44 82 dX4_whose_41 rfl (by decide) (fun _ => ?_) (fun _ => ?_)
      · refine g_iloadn K 3 rfl rfl 83 dX4_whose_82 rfl ?_
        exact gm_iret K hK hcl hr hlk dX4_whose_83 rfl
      · refine g_iloadn K 1 rfl rfl 45 dX4_whose_44 rfl ?_
        refine g_aloadn K 0 rfl rfl 46 dX4_whose_45 rfl ?_
        refine gm_get K hK hcl 52 49 (by decide) q1537 rfl dX4_whose_46 rfl ?_
        refine g_iload K 4 rfl 51 dX4_whose_49 rfl ?_
        refine gm_ald K hK hcl 52 29 8 52 rfl dX4_whose_51 rfl (fun v7 _ => ?_)
        refine g_iconst K (-1 : Int32) ic_m1 53 dX4_whose_52 rfl ?_
        refine g_ixor K 54 dX4_whose_53 rfl ?_
        refine g_iand K 55 dX4_whose_54 rfl ?_
        refine g_if_ne K 58 76 dX4_whose_55 rfl (by decide) (fun _ => ?_) (fun _ => ?_)
        · refine g_aloadn K 0 rfl rfl 59 dX4_whose_58 rfl ?_
          refine gm_get K hK hcl 53 62 (by decide) q1538 rfl dX4_whose_59 rfl ?_
          refine g_iload K 4 rfl 64 dX4_whose_62 rfl ?_
          refine gm_ald K hK hcl 53 30 8 65 rfl dX4_whose_64 rfl (fun v8 _ => ?_)
          refine g_iloadn K 2 rfl rfl 66 dX4_whose_65 rfl ?_
          refine g_icmp_lt K 69 76 dX4_whose_66 rfl (by decide) (fun _ => ?_) (fun _ => ?_)
          · refine g_iinc K (j4.2 + (nI 1)) 4 [(0, .ref am), (1, .int x1), (2, .int x2), (3, .int j4.1), (4, .int (j4.2 + (nI 1)))] [1, 2, 3, 4, 0] rfl (by rw [ic_1]) (by decide) rfl 79 dX4_whose_76 rfl ?_
            refine g_goto K 35 dX4_whose_79 (by decide) ?_
            exact h6 (j4.1, (j4.2 + (nI 1)))
          · refine g_iloadn K 3 rfl rfl 70 dX4_whose_69 rfl ?_
            refine g_iconst K (nI 1) ic_1 71 dX4_whose_70 rfl ?_
            refine g_iload K 4 rfl 73 dX4_whose_71 rfl ?_
            refine g_ishl K 74 dX4_whose_73 rfl ?_
            refine g_ior K 75 dX4_whose_74 rfl ?_
            refine g_nm (fun v9 _ => ?_)
            refine g_istoren K [(0, .ref am), (1, .int x1), (2, .int x2), (3, .int v9), (4, .int j4.2)] [1, 2, 3, 0, 4] rfl (by decide) rfl 76 dX4_whose_75 rfl ?_
            refine g_iinc K (j4.2 + (nI 1)) 4 [(0, .ref am), (1, .int x1), (2, .int x2), (3, .int v9), (4, .int (j4.2 + (nI 1)))] [1, 2, 3, 4, 0] rfl (by rw [ic_1]) (by decide) rfl 79 dX4_whose_76 rfl ?_
            refine g_goto K 35 dX4_whose_79 (by decide) ?_
            exact h6 (v9, (j4.2 + (nI 1)))
        · refine g_iinc K (j4.2 + (nI 1)) 4 [(0, .ref am), (1, .int x1), (2, .int x2), (3, .int j4.1), (4, .int (j4.2 + (nI 1)))] [1, 2, 3, 4, 0] rfl (by rw [ic_1]) (by decide) rfl 79 dX4_whose_76 rfl ?_
          refine g_goto K 35 dX4_whose_79 (by decide) ?_
          exact h6 (j4.1, (j4.2 + (nI 1)))
/-- crumb(I)I -/
def m_crumb (μ : Mem) (x1 : Int32) : Option (Int32 × Mem) :=
  nm (up2 μ 0 0 (nI 0)) fun μ1 =>
  if x1 = (-1 : Int32) then
  nm (up2 μ1 54 0 (nI 0)) fun μ5 =>
  some ((nI 0), μ5)
  else
  (m_isIn μ1 x1 (nI 0) (nI 3)).bind fun r2 =>
  if (bI r2) = 0 then
  some ((-1 : Int32), μ1)
  else
  if (μ1 54 0) = (nI 16) then
  some ((-1 : Int32), μ1)
  else
  (wr μ1 55 16 (μ1 54 0) x1).bind fun μ3 =>
  nm (up2 μ3 54 0 ((μ3 54 0) + (nI 1))) fun μ4 =>
  some ((μ4 54 0), μ4)
theorem wd_crumb : yX4_crumb.cls = RX4 ∧ yX4_crumb.cls ≠ "java/lang/invoke/MethodHandle" ∧ yX4_crumb.cls ≠ "java/lang/invoke/VarHandle" ∧ (parseMethodDescriptor yX4_crumb.desc).map (fun d => d.parameters.length) = some 1 := by decide +kernel
set_option maxRecDepth 100000 in
theorem ct_crumb (μ : Mem) (x1 : Int32) : CtM yX4_crumb cX4_crumb 2 (some .int) 1 23 [.int x1] μ (fun r => (some (.int r.1), r.2)) (m_crumb μ x1) := by
  refine CtM.of (by decide) rfl (fun _ => Nat.le_of_ble_eq_true rfl) ?_
  intro l D cl ci cA am p e s m args below meth c hcl K hr hlk hK
  refine g_sub (ls' := [(0, .ref am), (1, .int x1)]) [0, 1] rfl ?_
  unfold m_crumb
  refine g_aloadn K 0 rfl rfl 1 dX4_crumb_0 rfl ?_
  refine g_iconst K (nI 0) ic_0 2 dX4_crumb_1 rfl ?_
  refine gm_put K hK hcl 0 (ty := .int) 5 (by decide) q1485 rfl (by decide +kernel) rfl rfl rfl dX4_crumb_2 rfl (fun μ1 _ => ?_)
  refine g_iloadn K 1 rfl rfl 6 dX4_crumb_5 rfl ?_
  refine g_iconst K (-1 : Int32) ic_m1 7 dX4_crumb_6 rfl ?_
  refine g_icmp_ne K 10 17 dX4_crumb_7 rfl (by decide) (fun _ => ?_) (fun _ => ?_)
  · refine g_aloadn K 0 rfl rfl 11 dX4_crumb_10 rfl ?_
    refine g_iconst K (nI 0) ic_0 12 dX4_crumb_11 rfl ?_
    refine gm_put K hK hcl 54 (ty := .int) 15 (by decide) q1539 rfl (by decide +kernel) rfl rfl rfl dX4_crumb_12 rfl (fun μ5 _ => ?_)
    refine g_iconst K (nI 0) ic_0 16 dX4_crumb_15 rfl ?_
    exact gm_iret K hK hcl hr hlk dX4_crumb_16 rfl
  · refine g_aloadn K 0 rfl rfl 18 dX4_crumb_17 rfl ?_
    refine g_iloadn K 1 rfl rfl 19 dX4_crumb_18 rfl ?_
    refine g_iconst K (nI 0) ic_0 20 dX4_crumb_19 rfl ?_
    refine g_iconst K (nI 3) ic_3 21 dX4_crumb_20 rfl ?_
    refine gm_call K hK hcl 24 (ct_isIn μ1 x1 (nI 0) (nI 3)) (lw_V q1723 q1725 qs55 q158 q1726) wd_isIn (by decide) rfl (Nat.le_of_ble_eq_true rfl) dX4_crumb_21 rfl (fun r2 _ => ?_)
    refine g_if_eq K 27 36 dX4_crumb_24 rfl (by decide) (fun _ => ?_) (fun _ => ?_)
    · refine g_iconst K (-1 : Int32) ic_m1 37 dX4_crumb_36 rfl ?_
      exact gm_iret K hK hcl hr hlk dX4_crumb_37 rfl
    · refine g_aloadn K 0 rfl rfl 28 dX4_crumb_27 rfl ?_
      refine gm_get K hK hcl 54 31 (by decide) q1539 rfl dX4_crumb_28 rfl ?_
      refine g_bipush K (nI 16) bp_16 33 dX4_crumb_31 rfl ?_
      refine g_icmp_ne K 36 38 dX4_crumb_33 rfl (by decide) (fun _ => ?_) (fun _ => ?_)
      · refine g_iconst K (-1 : Int32) ic_m1 37 dX4_crumb_36 rfl ?_
        exact gm_iret K hK hcl hr hlk dX4_crumb_37 rfl
      · refine g_aloadn K 0 rfl rfl 39 dX4_crumb_38 rfl ?_
        refine gm_get K hK hcl 55 42 (by decide) q1540 rfl dX4_crumb_39 rfl ?_
        refine g_aloadn K 0 rfl rfl 43 dX4_crumb_42 rfl ?_
        refine gm_get K hK hcl 54 46 (by decide) q1539 rfl dX4_crumb_43 rfl ?_
        refine g_iloadn K 1 rfl rfl 47 dX4_crumb_46 rfl ?_
        refine gm_ast K hK hcl 55 31 16 48 rfl (fun _ => rfl) dX4_crumb_47 rfl (fun μ3 _ => ?_)
        refine g_aloadn K 0 rfl rfl 49 dX4_crumb_48 rfl ?_
        refine g_aloadn K 0 rfl rfl 50 dX4_crumb_49 rfl ?_
        refine gm_get K hK hcl 54 53 (by decide) q1539 rfl dX4_crumb_50 rfl ?_
        refine g_iconst K (nI 1) ic_1 54 dX4_crumb_53 rfl ?_
        refine g_iadd K 55 dX4_crumb_54 rfl ?_
        refine gm_put K hK hcl 54 (ty := .int) 58 (by decide) q1539 rfl (by decide +kernel) rfl rfl rfl dX4_crumb_55 rfl (fun μ4 _ => ?_)
        refine g_aloadn K 0 rfl rfl 59 dX4_crumb_58 rfl ?_
        refine gm_get K hK hcl 54 62 (by decide) q1539 rfl dX4_crumb_59 rfl ?_
        exact gm_iret K hK hcl hr hlk dX4_crumb_62 rfl
/-- crumbs(I)I -/
def m_crumbs (μ : Mem) (x1 : Int32) : Option (Int32 × Mem) :=
  nm (up2 μ 0 0 (nI 0)) fun μ1 =>
  (m_isIn μ1 x1 (nI 0) (nI 1)).bind fun r2 =>
  if (bI r2) = 0 then
  some ((-1 : Int32), μ1)
  else
  jn (fun (j3 : Mem) =>
  (wr j3 56 1681 (nI 840) (nI 1)).bind fun μ6 =>
  jn (fun (j7 : Int32 × Int32 × Mem) =>
  if x1 = 0 then
  (m_apart j7.2.2 j7.1 (nI 0)).bind fun r14 =>
  (m_apart j7.2.2 j7.2.1 (nI 0)).bind fun r15 =>
  some ((r14 + r15), j7.2.2)
  else
  lp (fun again11 (j10 : Int32 × Int32) =>
  if (nI 1681) ≤ j10.2 then
  some (j10.1, j7.2.2)
  else
  (rd j7.2.2 56 1681 j10.2).bind fun v13 =>
  if v13 ≤ (nI 1) then
  again11 (j10.1, (j10.2 + (nI 1)))
  else
  again11 ((j10.1 + (nI 1)), (j10.2 + (nI 1)))) fuel ((nI 0), (nI 0))) (fun k8 =>
  lp (fun again17 (j16 : Int32 × Int32 × Int32 × Mem) =>
  if (j16.2.2.2 54 0) ≤ j16.2.2.1 then
  k8 (j16.1, j16.2.1, j16.2.2.2)
  else
  (rd j16.2.2.2 55 16 j16.2.2.1).bind fun v19 =>
  jn (fun (j20 : Int32 × Int32) =>
  nm ((((nI 41) * (j20.1 + (nI 20))) + j20.2) + (nI 20)) fun v23 =>
  (rd j16.2.2.2 56 1681 v23).bind fun v24 =>
  (wr j16.2.2.2 56 1681 v23 (v24 + (nI 1))).bind fun μ25 =>
  again17 (j20.1, j20.2, (j16.2.2.1 + (nI 1)), μ25)) (fun k21 =>
  jn (fun (j26 : Unit) =>
  (rd j16.2.2.2 55 16 j16.2.2.1).bind fun v29 =>
  jn (fun (j30 : Int32) =>
  k21 ((j16.1 + j30), j16.2.1)) (fun k31 =>
  if v29 = 0 then
  k31 (nI 1)
  else
  k31 (-1 : Int32))) (fun k27 =>
  if v19 = 0 then
  k27 ()
  else
  (rd j16.2.2.2 55 16 j16.2.2.1).bind fun v33 =>
  if v33 = (nI 2) then
  k27 ()
  else
  (rd j16.2.2.2 55 16 j16.2.2.1).bind fun v34 =>
  jn (fun (j35 : Int32) =>
  k21 (j16.1, (j16.2.1 + j35))) (fun k36 =>
  if v34 = (nI 1) then
  k36 (nI 1)
  else
  k36 (-1 : Int32))))) fuel ((nI 0), (nI 0), (nI 0), μ6))) (fun k4 =>
  lp (fun again39 (j38 : Int32 × Mem) =>
  if (nI 1681) ≤ j38.1 then
  k4 j38.2
  else
  (wr j38.2 56 1681 j38.1 (nI 0)).bind fun μ41 =>
  again39 ((j38.1 + (nI 1)), μ41)) fuel ((nI 0), μ1))
theorem wd_crumbs : yX4_crumbs.cls = RX4 ∧ yX4_crumbs.cls ≠ "java/lang/invoke/MethodHandle" ∧ yX4_crumbs.cls ≠ "java/lang/invoke/VarHandle" ∧ (parseMethodDescriptor yX4_crumbs.desc).map (fun d => d.parameters.length) = some 1 := by decide +kernel
set_option maxRecDepth 100000 in
theorem ct_crumbs (μ : Mem) (x1 : Int32) : CtM yX4_crumbs cX4_crumbs 6 (some .int) 1 23 [.int x1] μ (fun r => (some (.int r.1), r.2)) (m_crumbs μ x1) := by
  refine CtM.of (by decide) rfl (fun _ => Nat.le_of_ble_eq_true rfl) ?_
  intro l D cl ci cA am p e s m args below meth c hcl K hr hlk hK
  refine g_sub (ls' := [(0, .ref am), (1, .int x1)]) [0, 1] rfl ?_
  unfold m_crumbs
  refine g_aloadn K 0 rfl rfl 1 dX4_crumbs_0 rfl ?_
  refine g_iconst K (nI 0) ic_0 2 dX4_crumbs_1 rfl ?_
  refine gm_put K hK hcl 0 (ty := .int) 5 (by decide) q1485 rfl (by decide +kernel) rfl rfl rfl dX4_crumbs_2 rfl (fun μ1 _ => ?_)
  refine g_aloadn K 0 rfl rfl 6 dX4_crumbs_5 rfl ?_
  refine g_iloadn K 1 rfl rfl 7 dX4_crumbs_6 rfl ?_
  refine g_iconst K (nI 0) ic_0 8 dX4_crumbs_7 rfl ?_
  refine g_iconst K (nI 1) ic_1 9 dX4_crumbs_8 rfl ?_
  refine gm_call K hK hcl 12 (ct_isIn μ1 x1 (nI 0) (nI 1)) (lw_V q1723 q1725 qs55 q158 q1726) wd_isIn (by decide) rfl (Nat.le_of_ble_eq_true rfl) dX4_crumbs_9 rfl (fun r2 _ => ?_)
  refine g_if_ne K 15 17 dX4_crumbs_12 rfl (by decide) (fun _ => ?_) (fun _ => ?_)
  · refine g_iconst K (-1 : Int32) ic_m1 16 dX4_crumbs_15 rfl ?_
    exact gm_iret K hK hcl hr hlk dX4_crumbs_16 rfl
  · refine g_iconst K (nI 0) ic_0 18 dX4_crumbs_17 rfl ?_
    refine g_istoren K [(0, .ref am), (1, .int x1), (2, .int (nI 0))] [1, 2, 0] rfl (by decide) rfl 19 dX4_crumbs_18 rfl ?_
    refine g_jn (head := 39) (L := fun j3 => [(0, .ref am), (1, .int x1)]) (sf := fun j3 => []) (mf := fun j3 => j3) (fun j3 => ?_) (fun k4 h5 => ?_)
    · try dsimp only
      refine g_iconst K (nI 0) ic_0 40 dX4_crumbs_39 rfl ?_
      refine g_istoren K [(0, .ref am), (1, .int x1), (2, .int (nI 0))] [1, 2, 0] rfl (by decide) rfl 41 dX4_crumbs_40 rfl ?_
      refine g_iconst K (nI 0) ic_0 42 dX4_crumbs_41 rfl ?_
      refine g_istoren K [(0, .ref am), (1, .int x1), (2, .int (nI 0)), (3, .int (nI 0))] [1, 2, 3, 0] rfl (by decide) rfl 43 dX4_crumbs_42 rfl ?_
      refine g_aloadn K 0 rfl rfl 44 dX4_crumbs_43 rfl ?_
      refine gm_get K hK hcl 56 47 (by decide) q1541 rfl dX4_crumbs_44 rfl ?_
      refine g_sipush K (nI 840) sp_840 50 dX4_crumbs_47 rfl ?_
      refine g_iconst K (nI 1) ic_1 51 dX4_crumbs_50 rfl ?_
      refine gm_ast K hK hcl 56 32 1681 52 rfl (fun _ => rfl) dX4_crumbs_51 rfl (fun μ6 _ => ?_)
      refine g_iconst K (nI 0) ic_0 53 dX4_crumbs_52 rfl ?_
      refine g_istore K [(0, .ref am), (1, .int x1), (2, .int (nI 0)), (3, .int (nI 0)), (4, .int (nI 0))] [1, 2, 3, 4, 0] (by decide) rfl 55 dX4_crumbs_53 rfl ?_
      refine g_jn (head := 161) (L := fun j7 => [(0, .ref am), (1, .int x1), (2, .int j7.1), (3, .int j7.2.1)]) (sf := fun j7 => []) (mf := fun j7 => j7.2.2) (fun j7 => ?_) (fun k8 h9 => ?_)
      · try dsimp only
        refine g_iloadn K 1 rfl rfl 162 dX4_crumbs_161 rfl ?_
        refine g_if_ne K 165 179 dX4_crumbs_162 rfl (by decide) (fun _ => ?_) (fun _ => ?_)
        · refine g_aloadn K 0 rfl rfl 166 dX4_crumbs_165 rfl ?_
          refine g_iloadn K 2 rfl rfl 167 dX4_crumbs_166 rfl ?_
          refine g_iconst K (nI 0) ic_0 168 dX4_crumbs_167 rfl ?_
          refine gm_call K hK hcl 171 (ct_apart j7.2.2 j7.1 (nI 0)) (lw_V q2138 q2140 qs137 q158 q2141) wd_apart (by decide) rfl (Nat.le_of_ble_eq_true rfl) dX4_crumbs_168 rfl (fun r14 _ => ?_)
          refine g_aloadn K 0 rfl rfl 172 dX4_crumbs_171 rfl ?_
          refine g_iloadn K 3 rfl rfl 173 dX4_crumbs_172 rfl ?_
          refine g_iconst K (nI 0) ic_0 174 dX4_crumbs_173 rfl ?_
          refine gm_call K hK hcl 177 (ct_apart j7.2.2 j7.2.1 (nI 0)) (lw_V q2138 q2140 qs137 q158 q2141) wd_apart (by decide) rfl (Nat.le_of_ble_eq_true rfl) dX4_crumbs_174 rfl (fun r15 _ => ?_)
          refine g_iadd K 178 dX4_crumbs_177 rfl ?_
          exact gm_iret K hK hcl hr hlk dX4_crumbs_178 rfl
        · refine g_iconst K (nI 0) ic_0 180 dX4_crumbs_179 rfl ?_
          refine g_istore K [(0, .ref am), (4, .int (nI 0))] [1, 0] (by decide) rfl 182 dX4_crumbs_180 rfl ?_
          refine g_iconst K (nI 0) ic_0 183 dX4_crumbs_182 rfl ?_
          refine g_istore K [(0, .ref am), (4, .int (nI 0)), (5, .int (nI 0))] [1, 2, 0] (by decide) rfl 185 dX4_crumbs_183 rfl ?_
          refine g_lp (head := 185) (L := fun j10 => [(0, .ref am), (4, .int j10.1), (5, .int j10.2)]) (sf := fun j10 => []) (mf := fun j10 => j7.2.2) (fun again11 h12 j10 => ?_) fuel ((nI 0), (nI 0))
          try dsimp only
          refine g_iload K 2 rfl 187 dX4_crumbs_185 rfl ?_
          refine g_sipush K (nI 1681) sp_1681 190 dX4_crumbs_187 rfl ?_
          refine g_icmp_ge K 193 216 dX4_crumbs_190 rfl (by decide) (fun _ => ?_) (fun _ => ?_)
          · refine g_iload K 1 rfl 218 dX4_crumbs_216 rfl ?_
            exact gm_iret K hK hcl hr hlk dX4_crumbs_218 rfl
          · refine g_aloadn K 0 rfl rfl 194 dX4_crumbs_193 rfl ?_
            refine gm_get K hK hcl 56 197 (by decide) q1541 rfl dX4_crumbs_194 rfl ?_
            refine g_iload K 2 rfl 199 dX4_crumbs_197 rfl ?_
            refine gm_ald K hK hcl 56 32 1681 200 rfl dX4_crumbs_199 rfl (fun v13 _ => ?_)
            refine g_iconst K (nI 1) ic_1 201 dX4_crumbs_200 rfl ?_
            refine g_icmp_le K 204 210 dX4_crumbs_201 rfl (by decide) (fun _ => ?_) (fun _ => ?_)
            · refine g_iinc K (j10.2 + (nI 1)) 2 [(0, .ref am), (4, .int j10.1), (5, .int (j10.2 + (nI 1)))] [1, 2, 0] rfl (by rw [ic_1]) (by decide) rfl 213 dX4_crumbs_210 rfl ?_
              refine g_goto K 185 dX4_crumbs_213 (by decide) ?_
              exact h12 (j10.1, (j10.2 + (nI 1)))
            · refine g_iload K 1 rfl 206 dX4_crumbs_204 rfl ?_
              refine g_iconst K (nI 1) ic_1 207 dX4_crumbs_206 rfl ?_
              refine g_iadd K 208 dX4_crumbs_207 rfl ?_
              refine g_istore K [(0, .ref am), (4, .int (j10.1 + (nI 1))), (5, .int j10.2)] [1, 0, 2] (by decide) rfl 210 dX4_crumbs_208 rfl ?_
              refine g_iinc K (j10.2 + (nI 1)) 2 [(0, .ref am), (4, .int (j10.1 + (nI 1))), (5, .int (j10.2 + (nI 1)))] [1, 2, 0] rfl (by rw [ic_1]) (by decide) rfl 213 dX4_crumbs_210 rfl ?_
              refine g_goto K 185 dX4_crumbs_213 (by decide) ?_
              exact h12 ((j10.1 + (nI 1)), (j10.2 + (nI 1)))
      · refine g_lp (head := 55) (L := fun j16 => [(0, .ref am), (1, .int x1), (2, .int j16.1), (3, .int j16.2.1), (4, .int j16.2.2.1)]) (sf := fun j16 => []) (mf := fun j16 => j16.2.2.2) (fun again17 h18 j16 => ?_) fuel ((nI 0), (nI 0), (nI 0), μ6)
        try dsimp only
        refine g_iload K 4 rfl 57 dX4_crumbs_55 rfl ?_
        refine g_aloadn K 0 rfl rfl 58 dX4_crumbs_57 rfl ?_
        refine gm_get K hK hcl 54 61 (by decide) q1539 rfl dX4_crumbs_58 rfl ?_
        refine g_icmp_ge K 64 161 dX4_crumbs_61 rfl (by decide) (fun _ => ?_) (fun _ => ?_)
        · refine g_sub (ls' := [(0, .ref am), (1, .int x1), (2, .int j16.1), (3, .int j16.2.1)]) [0, 1, 2, 3] rfl ?_
          exact h9 (j16.1, j16.2.1, j16.2.2.2)
        · refine g_aloadn K 0 rfl rfl 65 dX4_crumbs_64 rfl ?_
          refine gm_get K hK hcl 55 68 (by decide) q1540 rfl dX4_crumbs_65 rfl ?_
          refine g_iload K 4 rfl 70 dX4_crumbs_68 rfl ?_
          refine gm_ald K hK hcl 55 31 16 71 rfl dX4_crumbs_70 rfl (fun v19 _ => ?_)
          refine g_jn (head := 125) (L := fun j20 => [(0, .ref am), (1, .int x1), (2, .int j20.1), (3, .int j20.2), (4, .int j16.2.2.1)]) (sf := fun j20 => []) (mf := fun j20 => j16.2.2.2) (fun j20 => ?_) (fun k21 h22 => ?_)
          · try dsimp only
            refine g_bipush K (nI 41) bp_41 127 dX4_crumbs_125 rfl ?_
            refine g_iloadn K 2 rfl rfl 128 dX4_crumbs_127 rfl ?_
            refine g_bipush K (nI 20) bp_20 130 dX4_crumbs_128 rfl ?_
            refine g_iadd K 131 dX4_crumbs_130 rfl ?_
            refine g_imul K 132 dX4_crumbs_131 rfl ?_
            refine g_iloadn K 3 rfl rfl 133 dX4_crumbs_132 rfl ?_
            refine g_iadd K 134 dX4_crumbs_133 rfl ?_
            refine g_bipush K (nI 20) bp_20 136 dX4_crumbs_134 rfl ?_
            refine g_iadd K 137 dX4_crumbs_136 rfl ?_
            refine g_nm (fun v23 _ => ?_)
            refine g_istore K [(0, .ref am), (1, .int x1), (2, .int j20.1), (3, .int j20.2), (4, .int j16.2.2.1), (5, .int v23)] [1, 2, 3, 4, 5, 0] (by decide) rfl 139 dX4_crumbs_137 rfl ?_
            refine g_aloadn K 0 rfl rfl 140 dX4_crumbs_139 rfl ?_
            refine gm_get K hK hcl 56 143 (by decide) q1541 rfl dX4_crumbs_140 rfl ?_
            refine g_iload K 5 rfl 145 dX4_crumbs_143 rfl ?_
            refine g_aloadn K 0 rfl rfl 146 dX4_crumbs_145 rfl ?_
            refine gm_get K hK hcl 56 149 (by decide) q1541 rfl dX4_crumbs_146 rfl ?_
            refine g_iload K 5 rfl 151 dX4_crumbs_149 rfl ?_
            refine gm_ald K hK hcl 56 32 1681 152 rfl dX4_crumbs_151 rfl (fun v24 _ => ?_)
            refine g_iconst K (nI 1) ic_1 153 dX4_crumbs_152 rfl ?_
            refine g_iadd K 154 dX4_crumbs_153 rfl ?_
            refine gm_ast K hK hcl 56 32 1681 155 rfl (fun _ => rfl) dX4_crumbs_154 rfl (fun μ25 _ => ?_)
            refine g_iinc K (j16.2.2.1 + (nI 1)) 4 [(0, .ref am), (1, .int x1), (2, .int j20.1), (3, .int j20.2), (4, .int (j16.2.2.1 + (nI 1)))] [1, 2, 3, 4, 0] rfl (by rw [ic_1]) (by decide) rfl 158 dX4_crumbs_155 rfl ?_
            refine g_goto K 55 dX4_crumbs_158 (by decide) ?_
            exact h18 (j20.1, j20.2, (j16.2.2.1 + (nI 1)), μ25)
          · refine g_jn (head := 85) (L := fun j26 => [(0, .ref am), (1, .int x1), (2, .int j16.1), (3, .int j16.2.1), (4, .int j16.2.2.1)]) (sf := fun j26 => []) (mf := fun j26 => j16.2.2.2) (fun j26 => ?_) (fun k27 h28 => ?_)
            · try dsimp only
              refine g_iloadn K 2 rfl rfl 86 dX4_crumbs_85 rfl ?_
              refine g_aloadn K 0 rfl rfl 87 dX4_crumbs_86 rfl ?_
              refine gm_get K hK hcl 55 90 (by decide) q1540 rfl dX4_crumbs_87 rfl ?_
              refine g_iload K 4 rfl 92 dX4_crumbs_90 rfl ?_
              refine gm_ald K hK hcl 55 31 16 93 rfl dX4_crumbs_92 rfl (fun v29 _ => ?_)
              refine g_jn (head := 101) (L := fun j30 => [(0, .ref am), (1, .int x1), (3, .int j16.2.1), (4, .int j16.2.2.1)]) (sf := fun j30 => [.int j30, .int j16.1]) (mf := fun j30 => j16.2.2.2) (fun j30 => ?_) (fun k31 h32 => ?_)
              · try dsimp only
                refine g_iadd K 102 dX4_crumbs_101 rfl ?_
                refine g_istoren K [(0, .ref am), (1, .int x1), (2, .int (j16.1 + j30)), (3, .int j16.2.1), (4, .int j16.2.2.1)] [1, 2, 0, 3, 4] rfl (by decide) rfl 103 dX4_crumbs_102 rfl ?_
                refine g_goto K 125 dX4_crumbs_103 (by decide) ?_
                exact h22 ((j16.1 + j30), j16.2.1)
              · refine g_if_ne K 96 100 dX4_crumbs_93 rfl (by decide) (fun _ => ?_) (fun _ => ?_)
                · refine g_iconst K (nI 1) ic_1 97 dX4_crumbs_96 rfl ?_
                  refine g_goto K 101 dX4_crumbs_97 (by decide) ?_
                  refine g_sub (ls' := [(0, .ref am), (1, .int x1), (3, .int j16.2.1), (4, .int j16.2.2.1)]) [0, 1, 3, 4] rfl ?_
                  exact h32 (nI 1)
                · refine g_iconst K (-1 : Int32) ic_m1 101 dX4_crumbs_100 rfl ?_
                  refine g_sub (ls' := [(0, .ref am), (1, .int x1), (3, .int j16.2.1), (4, .int j16.2.2.1)]) [0, 1, 3, 4] rfl ?_
                  exact h32 (-1 : Int32)
            · refine g_if_eq K 74 85 dX4_crumbs_71 rfl (by decide) (fun _ => ?_) (fun _ => ?_)
              · exact h28 ()
              · refine g_aloadn K 0 rfl rfl 75 dX4_crumbs_74 rfl ?_
                refine gm_get K hK hcl 55 78 (by decide) q1540 rfl dX4_crumbs_75 rfl ?_
                refine g_iload K 4 rfl 80 dX4_crumbs_78 rfl ?_
                refine gm_ald K hK hcl 55 31 16 81 rfl dX4_crumbs_80 rfl (fun v33 _ => ?_)
                refine g_iconst K (nI 2) ic_2 82 dX4_crumbs_81 rfl ?_
                refine g_icmp_ne K 85 106 dX4_crumbs_82 rfl (by decide) (fun _ => ?_) (fun _ => ?_)
                · exact h28 ()
                · refine g_iloadn K 3 rfl rfl 107 dX4_crumbs_106 rfl ?_
                  refine g_aloadn K 0 rfl rfl 108 dX4_crumbs_107 rfl ?_
                  refine gm_get K hK hcl 55 111 (by decide) q1540 rfl dX4_crumbs_108 rfl ?_
                  refine g_iload K 4 rfl 113 dX4_crumbs_111 rfl ?_
                  refine gm_ald K hK hcl 55 31 16 114 rfl dX4_crumbs_113 rfl (fun v34 _ => ?_)
                  refine g_iconst K (nI 1) ic_1 115 dX4_crumbs_114 rfl ?_
                  refine g_jn (head := 123) (L := fun j35 => [(0, .ref am), (1, .int x1), (2, .int j16.1), (4, .int j16.2.2.1)]) (sf := fun j35 => [.int j35, .int j16.2.1]) (mf := fun j35 => j16.2.2.2) (fun j35 => ?_) (fun k36 h37 => ?_)
                  · try dsimp only
                    refine g_iadd K 124 dX4_crumbs_123 rfl ?_
                    refine g_istoren K [(0, .ref am), (1, .int x1), (2, .int j16.1), (3, .int (j16.2.1 + j35)), (4, .int j16.2.2.1)] [1, 2, 3, 0, 4] rfl (by decide) rfl 125 dX4_crumbs_124 rfl ?_
                    exact h22 (j16.1, (j16.2.1 + j35))
                  · refine g_icmp_ne K 118 122 dX4_crumbs_115 rfl (by decide) (fun _ => ?_) (fun _ => ?_)
                    · refine g_iconst K (nI 1) ic_1 119 dX4_crumbs_118 rfl ?_
                      refine g_goto K 123 dX4_crumbs_119 (by decide) ?_
                      refine g_sub (ls' := [(0, .ref am), (1, .int x1), (2, .int j16.1), (4, .int j16.2.2.1)]) [0, 1, 2, 4] rfl ?_
                      exact h37 (nI 1)
                    · refine g_iconst K (-1 : Int32) ic_m1 123 dX4_crumbs_122 rfl ?_
                      refine g_sub (ls' := [(0, .ref am), (1, .int x1), (2, .int j16.1), (4, .int j16.2.2.1)]) [0, 1, 2, 4] rfl ?_
                      exact h37 (-1 : Int32)
    · refine g_lp (head := 19) (L := fun j38 => [(0, .ref am), (1, .int x1), (2, .int j38.1)]) (sf := fun j38 => []) (mf := fun j38 => j38.2) (fun again39 h40 j38 => ?_) fuel ((nI 0), μ1)
      try dsimp only
      refine g_iloadn K 2 rfl rfl 20 dX4_crumbs_19 rfl ?_
      refine g_sipush K (nI 1681) sp_1681 23 dX4_crumbs_20 rfl ?_
      refine g_icmp_ge K 26 39 dX4_crumbs_23 rfl (by decide) (fun _ => ?_) (fun _ => ?_)
      · refine g_sub (ls' := [(0, .ref am), (1, .int x1)]) [0, 1] rfl ?_
        exact h5 j38.2
      · refine g_aloadn K 0 rfl rfl 27 dX4_crumbs_26 rfl ?_
        refine gm_get K hK hcl 56 30 (by decide) q1541 rfl dX4_crumbs_27 rfl ?_
        refine g_iloadn K 2 rfl rfl 31 dX4_crumbs_30 rfl ?_
        refine g_iconst K (nI 0) ic_0 32 dX4_crumbs_31 rfl ?_
        refine gm_ast K hK hcl 56 32 1681 33 rfl (fun _ => rfl) dX4_crumbs_32 rfl (fun μ41 _ => ?_)
        refine g_iinc K (j38.1 + (nI 1)) 2 [(0, .ref am), (1, .int x1), (2, .int (j38.1 + (nI 1)))] [1, 2, 0] rfl (by rw [ic_1]) (by decide) rfl 36 dX4_crumbs_33 rfl ?_
        refine g_goto K 19 dX4_crumbs_36 (by decide) ?_
        exact h40 ((j38.1 + (nI 1)), μ41)
/-- loaf(II)I -/
def m_loaf (μ : Mem) (x1 : Int32) (x2 : Int32) : Option (Int32 × Mem) :=
  nm (up2 μ 0 0 (nI 0)) fun μ1 =>
  if x1 = (-1 : Int32) then
  nm (up2 μ1 57 0 (nI 0)) fun μ7 =>
  some ((nI 0), μ7)
  else
  (m_isIn μ1 x1 (nI 1) (nI 30)).bind fun r2 =>
  if (bI r2) = 0 then
  some ((-1 : Int32), μ1)
  else
  (m_isIn μ1 x2 (nI 1) (nI 30)).bind fun r3 =>
  if (bI r3) = 0 then
  some ((-1 : Int32), μ1)
  else
  if (μ1 57 0) = (nI 6) then
  some ((-1 : Int32), μ1)
  else
  (wr μ1 58 6 (μ1 57 0) x1).bind fun μ4 =>
  (wr μ4 59 6 (μ4 57 0) x2).bind fun μ5 =>
  nm (up2 μ5 57 0 ((μ5 57 0) + (nI 1))) fun μ6 =>
  some ((μ6 57 0), μ6)
theorem wd_loaf : yX4_loaf.cls = RX4 ∧ yX4_loaf.cls ≠ "java/lang/invoke/MethodHandle" ∧ yX4_loaf.cls ≠ "java/lang/invoke/VarHandle" ∧ (parseMethodDescriptor yX4_loaf.desc).map (fun d => d.parameters.length) = some 2 := by decide +kernel
set_option maxRecDepth 100000 in
theorem ct_loaf (μ : Mem) (x1 : Int32) (x2 : Int32) : CtM yX4_loaf cX4_loaf 3 (some .int) 1 23 [.int x1, .int x2] μ (fun r => (some (.int r.1), r.2)) (m_loaf μ x1 x2) := by
  refine CtM.of (by decide) rfl (fun _ => Nat.le_of_ble_eq_true rfl) ?_
  intro l D cl ci cA am p e s m args below meth c hcl K hr hlk hK
  refine g_sub (ls' := [(0, .ref am), (1, .int x1), (2, .int x2)]) [0, 1, 2] rfl ?_
  unfold m_loaf
  refine g_aloadn K 0 rfl rfl 1 dX4_loaf_0 rfl ?_
  refine g_iconst K (nI 0) ic_0 2 dX4_loaf_1 rfl ?_
  refine gm_put K hK hcl 0 (ty := .int) 5 (by decide) q1485 rfl (by decide +kernel) rfl rfl rfl dX4_loaf_2 rfl (fun μ1 _ => ?_)
  refine g_iloadn K 1 rfl rfl 6 dX4_loaf_5 rfl ?_
  refine g_iconst K (-1 : Int32) ic_m1 7 dX4_loaf_6 rfl ?_
  refine g_icmp_ne K 10 17 dX4_loaf_7 rfl (by decide) (fun _ => ?_) (fun _ => ?_)
  · refine g_aloadn K 0 rfl rfl 11 dX4_loaf_10 rfl ?_
    refine g_iconst K (nI 0) ic_0 12 dX4_loaf_11 rfl ?_
    refine gm_put K hK hcl 57 (ty := .int) 15 (by decide) q1542 rfl (by decide +kernel) rfl rfl rfl dX4_loaf_12 rfl (fun μ7 _ => ?_)
    refine g_iconst K (nI 0) ic_0 16 dX4_loaf_15 rfl ?_
    exact gm_iret K hK hcl hr hlk dX4_loaf_16 rfl
  · refine g_aloadn K 0 rfl rfl 18 dX4_loaf_17 rfl ?_
    refine g_iloadn K 1 rfl rfl 19 dX4_loaf_18 rfl ?_
    refine g_iconst K (nI 1) ic_1 20 dX4_loaf_19 rfl ?_
    refine g_bipush K (nI 30) bp_30 22 dX4_loaf_20 rfl ?_
    refine gm_call K hK hcl 25 (ct_isIn μ1 x1 (nI 1) (nI 30)) (lw_V q1723 q1725 qs55 q158 q1726) wd_isIn (by decide) rfl (Nat.le_of_ble_eq_true rfl) dX4_loaf_22 rfl (fun r2 _ => ?_)
    refine g_if_eq K 28 48 dX4_loaf_25 rfl (by decide) (fun _ => ?_) (fun _ => ?_)
    · refine g_iconst K (-1 : Int32) ic_m1 49 dX4_loaf_48 rfl ?_
      exact gm_iret K hK hcl hr hlk dX4_loaf_49 rfl
    · refine g_aloadn K 0 rfl rfl 29 dX4_loaf_28 rfl ?_
      refine g_iloadn K 2 rfl rfl 30 dX4_loaf_29 rfl ?_
      refine g_iconst K (nI 1) ic_1 31 dX4_loaf_30 rfl ?_
      refine g_bipush K (nI 30) bp_30 33 dX4_loaf_31 rfl ?_
      refine gm_call K hK hcl 36 (ct_isIn μ1 x2 (nI 1) (nI 30)) (lw_V q1723 q1725 qs55 q158 q1726) wd_isIn (by decide) rfl (Nat.le_of_ble_eq_true rfl) dX4_loaf_33 rfl (fun r3 _ => ?_)
      refine g_if_eq K 39 48 dX4_loaf_36 rfl (by decide) (fun _ => ?_) (fun _ => ?_)
      · refine g_iconst K (-1 : Int32) ic_m1 49 dX4_loaf_48 rfl ?_
        exact gm_iret K hK hcl hr hlk dX4_loaf_49 rfl
      · refine g_aloadn K 0 rfl rfl 40 dX4_loaf_39 rfl ?_
        refine gm_get K hK hcl 57 43 (by decide) q1542 rfl dX4_loaf_40 rfl ?_
        refine g_bipush K (nI 6) bp_6 45 dX4_loaf_43 rfl ?_
        refine g_icmp_ne K 48 50 dX4_loaf_45 rfl (by decide) (fun _ => ?_) (fun _ => ?_)
        · refine g_iconst K (-1 : Int32) ic_m1 49 dX4_loaf_48 rfl ?_
          exact gm_iret K hK hcl hr hlk dX4_loaf_49 rfl
        · refine g_aloadn K 0 rfl rfl 51 dX4_loaf_50 rfl ?_
          refine gm_get K hK hcl 58 54 (by decide) q1543 rfl dX4_loaf_51 rfl ?_
          refine g_aloadn K 0 rfl rfl 55 dX4_loaf_54 rfl ?_
          refine gm_get K hK hcl 57 58 (by decide) q1542 rfl dX4_loaf_55 rfl ?_
          refine g_iloadn K 1 rfl rfl 59 dX4_loaf_58 rfl ?_
          refine gm_ast K hK hcl 58 33 6 60 rfl (fun _ => rfl) dX4_loaf_59 rfl (fun μ4 _ => ?_)
          refine g_aloadn K 0 rfl rfl 61 dX4_loaf_60 rfl ?_
          refine gm_get K hK hcl 59 64 (by decide) q1544 rfl dX4_loaf_61 rfl ?_
          refine g_aloadn K 0 rfl rfl 65 dX4_loaf_64 rfl ?_
          refine gm_get K hK hcl 57 68 (by decide) q1542 rfl dX4_loaf_65 rfl ?_
          refine g_iloadn K 2 rfl rfl 69 dX4_loaf_68 rfl ?_
          refine gm_ast K hK hcl 59 34 6 70 rfl (fun _ => rfl) dX4_loaf_69 rfl (fun μ5 _ => ?_)
          refine g_aloadn K 0 rfl rfl 71 dX4_loaf_70 rfl ?_
          refine g_aloadn K 0 rfl rfl 72 dX4_loaf_71 rfl ?_
          refine gm_get K hK hcl 57 75 (by decide) q1542 rfl dX4_loaf_72 rfl ?_
          refine g_iconst K (nI 1) ic_1 76 dX4_loaf_75 rfl ?_
          refine g_iadd K 77 dX4_loaf_76 rfl ?_
          refine gm_put K hK hcl 57 (ty := .int) 80 (by decide) q1542 rfl (by decide +kernel) rfl rfl rfl dX4_loaf_77 rfl (fun μ6 _ => ?_)
          refine g_aloadn K 0 rfl rfl 81 dX4_loaf_80 rfl ?_
          refine gm_get K hK hcl 57 84 (by decide) q1542 rfl dX4_loaf_81 rfl ?_
          exact gm_iret K hK hcl hr hlk dX4_loaf_84 rfl
/-- doneBy()I -/
def m_doneBy (μ : Mem) : Option (Int32) :=
  lp (fun again2 (j1 : Int32 × Int32 × Int32) =>
  if (μ 57 0) ≤ j1.2.2 then
  some j1.2.1
  else
  (rd μ 60 6 j1.2.2).bind fun v4 =>
  (rd μ 58 6 v4).bind fun v5 =>
  (m_greater μ (j1.1 + v5) j1.2.1).bind fun r6 =>
  (rd μ 60 6 j1.2.2).bind fun v7 =>
  (rd μ 59 6 v7).bind fun v8 =>
  again2 ((j1.1 + v5), (r6 + v8), (j1.2.2 + (nI 1)))) fuel ((nI 0), (nI 0), (nI 0))
theorem wd_doneBy : yX4_doneBy.cls = RX4 ∧ yX4_doneBy.cls ≠ "java/lang/invoke/MethodHandle" ∧ yX4_doneBy.cls ≠ "java/lang/invoke/VarHandle" ∧ (parseMethodDescriptor yX4_doneBy.desc).map (fun d => d.parameters.length) = some 0 := by decide +kernel
set_option maxRecDepth 100000 in
theorem ct_doneBy (μ : Mem) : CtM yX4_doneBy cX4_doneBy 4 (some .int) 1 22 [] μ (fun r => (some (.int r), μ)) (m_doneBy μ) := by
  refine CtM.of (by decide) rfl (fun _ => Nat.le_of_ble_eq_true rfl) ?_
  intro l D cl ci cA am p e s m args below meth c hcl K hr hlk hK
  refine g_sub (ls' := [(0, .ref am)]) [0] rfl ?_
  unfold m_doneBy
  refine g_iconst K (nI 0) ic_0 1 dX4_doneBy_0 rfl ?_
  refine g_istoren K [(0, .ref am), (1, .int (nI 0))] [1, 0] rfl (by decide) rfl 2 dX4_doneBy_1 rfl ?_
  refine g_iconst K (nI 0) ic_0 3 dX4_doneBy_2 rfl ?_
  refine g_istoren K [(0, .ref am), (1, .int (nI 0)), (2, .int (nI 0))] [1, 2, 0] rfl (by decide) rfl 4 dX4_doneBy_3 rfl ?_
  refine g_iconst K (nI 0) ic_0 5 dX4_doneBy_4 rfl ?_
  refine g_istoren K [(0, .ref am), (1, .int (nI 0)), (2, .int (nI 0)), (3, .int (nI 0))] [1, 2, 3, 0] rfl (by decide) rfl 6 dX4_doneBy_5 rfl ?_
  refine g_lp (head := 6) (L := fun j1 => [(0, .ref am), (1, .int j1.1), (2, .int j1.2.1), (3, .int j1.2.2)]) (sf := fun j1 => []) (mf := fun j1 => μ) (fun again2 h3 j1 => ?_) fuel ((nI 0), (nI 0), (nI 0))
  try dsimp only
  refine g_iloadn K 3 rfl rfl 7 dX4_doneBy_6 rfl ?_
  refine g_aloadn K 0 rfl rfl 8 dX4_doneBy_7 rfl ?_
  refine gm_get K hK hcl 57 11 (by decide) q1542 rfl dX4_doneBy_8 rfl ?_
  refine g_icmp_ge K 14 53 dX4_doneBy_11 rfl (by decide) (fun _ => ?_) (fun _ => ?_)
  · refine g_iloadn K 2 rfl rfl 54 dX4_doneBy_53 rfl ?_
    exact gm_iret K hK hcl hr hlk dX4_doneBy_54 rfl
  · refine g_iloadn K 1 rfl rfl 15 dX4_doneBy_14 rfl ?_
    refine g_aloadn K 0 rfl rfl 16 dX4_doneBy_15 rfl ?_
    refine gm_get K hK hcl 58 19 (by decide) q1543 rfl dX4_doneBy_16 rfl ?_
    refine g_aloadn K 0 rfl rfl 20 dX4_doneBy_19 rfl ?_
    refine gm_get K hK hcl 60 23 (by decide) q1545 rfl dX4_doneBy_20 rfl ?_
    refine g_iloadn K 3 rfl rfl 24 dX4_doneBy_23 rfl ?_
    refine gm_ald K hK hcl 60 35 6 25 rfl dX4_doneBy_24 rfl (fun v4 _ => ?_)
    refine gm_ald K hK hcl 58 33 6 26 rfl dX4_doneBy_25 rfl (fun v5 _ => ?_)
    refine g_iadd K 27 dX4_doneBy_26 rfl ?_
    refine g_istoren K [(0, .ref am), (1, .int (j1.1 + v5)), (2, .int j1.2.1), (3, .int j1.2.2)] [1, 0, 2, 3] rfl (by decide) rfl 28 dX4_doneBy_27 rfl ?_
    refine g_aloadn K 0 rfl rfl 29 dX4_doneBy_28 rfl ?_
    refine g_iloadn K 1 rfl rfl 30 dX4_doneBy_29 rfl ?_
    refine g_iloadn K 2 rfl rfl 31 dX4_doneBy_30 rfl ?_
    refine gm_call K hK hcl 34 (ct_greater μ (j1.1 + v5) j1.2.1) (lw_V q1967 q1969 qs109 q158 q1970) wd_greater (by decide) rfl (Nat.le_of_ble_eq_true rfl) dX4_doneBy_31 rfl (fun r6 _ => ?_)
    refine g_aloadn K 0 rfl rfl 35 dX4_doneBy_34 rfl ?_
    refine gm_get K hK hcl 59 38 (by decide) q1544 rfl dX4_doneBy_35 rfl ?_
    refine g_aloadn K 0 rfl rfl 39 dX4_doneBy_38 rfl ?_
    refine gm_get K hK hcl 60 42 (by decide) q1545 rfl dX4_doneBy_39 rfl ?_
    refine g_iloadn K 3 rfl rfl 43 dX4_doneBy_42 rfl ?_
    refine gm_ald K hK hcl 60 35 6 44 rfl dX4_doneBy_43 rfl (fun v7 _ => ?_)
    refine gm_ald K hK hcl 59 34 6 45 rfl dX4_doneBy_44 rfl (fun v8 _ => ?_)
    refine g_iadd K 46 dX4_doneBy_45 rfl ?_
    refine g_istoren K [(0, .ref am), (1, .int (j1.1 + v5)), (2, .int (r6 + v8)), (3, .int j1.2.2)] [1, 2, 0, 3] rfl (by decide) rfl 47 dX4_doneBy_46 rfl ?_
    refine g_iinc K (j1.2.2 + (nI 1)) 3 [(0, .ref am), (1, .int (j1.1 + v5)), (2, .int (r6 + v8)), (3, .int (j1.2.2 + (nI 1)))] [1, 2, 3, 0] rfl (by rw [ic_1]) (by decide) rfl 50 dX4_doneBy_47 rfl ?_
    refine g_goto K 6 dX4_doneBy_50 (by decide) ?_
    exact h3 ((j1.1 + v5), (r6 + v8), (j1.2.2 + (nI 1)))
