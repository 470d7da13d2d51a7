/-- readUnit()I -/
def m_readUnit (μ : Mem) : Option (Int32 × Mem) :=
  jn (fun (j1 : Int32) =>
  jn (fun (j4 : Unit) =>
  jn (fun (j7 : Int32) =>
  jn (fun (j10 : Int32) =>
  (m_emits μ j7 j10).bind fun r13 =>
  (m_reads r13).bind fun r14 =>
  some ((nI 0), r14)) (fun k11 =>
  if j1 = 0 then
  k11 (μ 15 0)
  else
  k11 ((μ 15 0) - (nI 7)))) (fun k8 =>
  if j1 = 0 then
  k8 (nI 0)
  else
  k8 (nI 1))) (fun k5 =>
  if j1 = 0 then
  if (μ 14 0) = (nI 3) then
  k5 ()
  else
  (m_errs μ (nI 1)).bind fun r15 =>
  some (r15.1, r15.2)
  else
  k5 ())) (fun k2 =>
  if (μ 14 0) = (nI 2) then
  (m_canAsk μ (μ 15 0)).bind fun r16 =>
  if (bI r16) = 0 then
  k2 (nI 0)
  else
  k2 (nI 1)
  else
  k2 (nI 0))
theorem wd_readUnit : yX4_readUnit.cls = RX4 ∧ yX4_readUnit.cls ≠ "java/lang/invoke/MethodHandle" ∧ yX4_readUnit.cls ≠ "java/lang/invoke/VarHandle" ∧ (parseMethodDescriptor yX4_readUnit.desc).map (fun d => d.parameters.length) = some 0 := by decide +kernel
set_option maxRecDepth 100000 in
theorem ct_readUnit (μ : Mem) : CtM yX4_readUnit cX4_readUnit 2 (some .int) 3 65 [] μ (fun r => (some (.int r.1), r.2)) (m_readUnit μ) := by
  refine CtM.of (by decide) rfl (fun _ => Nat.le_of_ble_eq_true rfl) ?_
  intro l D cl ci cA am p e s m args below meth c hcl K hr hlk hK
  refine g_sub (ls' := [(0, .ref am)]) [0] rfl ?_
  unfold m_readUnit
  refine g_aloadn K 0 rfl rfl 1 dX4_readUnit_0 rfl ?_
  refine gm_get K hK hcl 14 4 (by decide) q1499 rfl dX4_readUnit_1 rfl ?_
  refine g_iconst K (nI 2) ic_2 5 dX4_readUnit_4 rfl ?_
  refine g_jn (head := 24) (L := fun j1 => [(0, .ref am)]) (sf := fun j1 => [.int j1]) (mf := fun j1 => μ) (fun j1 => ?_) (fun k2 h3 => ?_)
  · try dsimp only
    refine g_istoren K [(0, .ref am), (1, .int j1)] [1, 0] rfl (by decide) rfl 25 dX4_readUnit_24 rfl ?_
    refine g_iloadn K 1 rfl rfl 26 dX4_readUnit_25 rfl ?_
    refine g_jn (head := 43) (L := fun j4 => [(0, .ref am), (1, .int j1)]) (sf := fun j4 => []) (mf := fun j4 => μ) (fun j4 => ?_) (fun k5 h6 => ?_)
    · try dsimp only
      refine g_aloadn K 0 rfl rfl 44 dX4_readUnit_43 rfl ?_
      refine g_iloadn K 1 rfl rfl 45 dX4_readUnit_44 rfl ?_
      refine g_jn (head := 53) (L := fun j7 => [(0, .ref am), (1, .int j1)]) (sf := fun j7 => [.int j7, .ref am]) (mf := fun j7 => μ) (fun j7 => ?_) (fun k8 h9 => ?_)
      · try dsimp only
        refine g_iloadn K 1 rfl rfl 54 dX4_readUnit_53 rfl ?_
        refine g_jn (head := 71) (L := fun j10 => [(0, .ref am)]) (sf := fun j10 => [.int j10, .int j7, .ref am]) (mf := fun j10 => μ) (fun j10 => ?_) (fun k11 h12 => ?_)
        · try dsimp only
          refine gm_call K hK hcl 74 (ct_emits μ j7 j10) (lw_V q1863 q1865 qs86 q158 q1866) wd_emits (by decide) rfl (Nat.le_of_ble_eq_true rfl) dX4_readUnit_71 rfl (fun r13 _ => ?_)
          refine g_aloadn K 0 rfl rfl 75 dX4_readUnit_74 rfl ?_
          refine gm_call K hK hcl 78 (ct_reads r13) (lw_V q1767 q1769 qs62 q158 q1770) wd_reads (by decide) rfl (Nat.le_of_ble_eq_true rfl) dX4_readUnit_75 rfl (fun r14 _ => ?_)
          refine g_iconst K (nI 0) ic_0 79 dX4_readUnit_78 rfl ?_
          exact gm_iret K hK hcl hr hlk dX4_readUnit_79 rfl
        · refine g_if_eq K 57 67 dX4_readUnit_54 rfl (by decide) (fun _ => ?_) (fun _ => ?_)
          · refine g_aloadn K 0 rfl rfl 68 dX4_readUnit_67 rfl ?_
            refine gm_get K hK hcl 15 71 (by decide) q1500 rfl dX4_readUnit_68 rfl ?_
            refine g_sub (ls' := [(0, .ref am)]) [0] rfl ?_
            exact h12 (μ 15 0)
          · refine g_aloadn K 0 rfl rfl 58 dX4_readUnit_57 rfl ?_
            refine gm_get K hK hcl 15 61 (by decide) q1500 rfl dX4_readUnit_58 rfl ?_
            refine g_bipush K (nI 7) bp_7 63 dX4_readUnit_61 rfl ?_
            refine g_isub K 64 dX4_readUnit_63 rfl ?_
            refine g_goto K 71 dX4_readUnit_64 (by decide) ?_
            refine g_sub (ls' := [(0, .ref am)]) [0] rfl ?_
            exact h12 ((μ 15 0) - (nI 7))
      · refine g_if_eq K 48 52 dX4_readUnit_45 rfl (by decide) (fun _ => ?_) (fun _ => ?_)
        · refine g_iconst K (nI 0) ic_0 53 dX4_readUnit_52 rfl ?_
          exact h9 (nI 0)
        · refine g_iconst K (nI 1) ic_1 49 dX4_readUnit_48 rfl ?_
          refine g_goto K 53 dX4_readUnit_49 (by decide) ?_
          exact h9 (nI 1)
    · refine g_if_ne K 29 43 dX4_readUnit_26 rfl (by decide) (fun _ => ?_) (fun _ => ?_)
      · refine g_aloadn K 0 rfl rfl 30 dX4_readUnit_29 rfl ?_
        refine gm_get K hK hcl 14 33 (by decide) q1499 rfl dX4_readUnit_30 rfl ?_
        refine g_iconst K (nI 3) ic_3 34 dX4_readUnit_33 rfl ?_
        refine g_icmp_eq K 37 43 dX4_readUnit_34 rfl (by decide) (fun _ => ?_) (fun _ => ?_)
        · exact h6 ()
        · refine g_aloadn K 0 rfl rfl 38 dX4_readUnit_37 rfl ?_
          refine g_iconst K (nI 1) ic_1 39 dX4_readUnit_38 rfl ?_
          refine gm_call K hK hcl 42 (ct_errs μ (nI 1)) (lw_V q1799 q1801 qs70 q158 q1802) wd_errs (by decide) rfl (Nat.le_of_ble_eq_true rfl) dX4_readUnit_39 rfl (fun r15 _ => ?_)
          exact gm_iret K hK hcl hr hlk dX4_readUnit_42 rfl
      · exact h6 ()
  · refine g_icmp_ne K 8 23 dX4_readUnit_5 rfl (by decide) (fun _ => ?_) (fun _ => ?_)
    · refine g_aloadn K 0 rfl rfl 9 dX4_readUnit_8 rfl ?_
      refine g_aloadn K 0 rfl rfl 10 dX4_readUnit_9 rfl ?_
      refine gm_get K hK hcl 15 13 (by decide) q1500 rfl dX4_readUnit_10 rfl ?_
      refine gm_call K hK hcl 16 (ct_canAsk μ (μ 15 0)) (lw_V q1859 q1861 qs85 q158 q1862) wd_canAsk (by decide) rfl (Nat.le_of_ble_eq_true rfl) dX4_readUnit_13 rfl (fun r16 _ => ?_)
      refine g_if_eq K 19 23 dX4_readUnit_16 rfl (by decide) (fun _ => ?_) (fun _ => ?_)
      · refine g_iconst K (nI 0) ic_0 24 dX4_readUnit_23 rfl ?_
        exact h3 (nI 0)
      · refine g_iconst K (nI 1) ic_1 20 dX4_readUnit_19 rfl ?_
        refine g_goto K 24 dX4_readUnit_20 (by decide) ?_
        exact h3 (nI 1)
    · refine g_iconst K (nI 0) ic_0 24 dX4_readUnit_23 rfl ?_
      exact h3 (nI 0)
/-- readProduct()I -/
def m_readProduct (μ : Mem) : Option (Int32 × Mem) :=
  (m_readUnit μ).bind fun r1 =>
  if r1.1 = (-1 : Int32) then
  some ((-1 : Int32), r1.2)
  else
  jn (fun (j2 : Mem) =>
  (m_errs j2 (nI 2)).bind fun r5 =>
  some (r5.1, r5.2)) (fun k3 =>
  jn (fun (j6 : Mem) =>
  (m_errs j6 (nI 1)).bind fun r9 =>
  some (r9.1, r9.2)) (fun k7 =>
  lp (fun again11 (j10 : Mem) =>
  (m_isSign j10 (nI 42)).bind fun r13 =>
  jn (fun (j14 : Unit) =>
  (m_isSign j10 (nI 42)).bind fun r17 =>
  (m_reads j10).bind fun r18 =>
  jn (fun (j19 : Unit) =>
  jn (fun (j22 : Unit) =>
  (m_readUnit r18).bind fun r25 =>
  if r25.1 = (-1 : Int32) then
  some ((-1 : Int32), r25.2)
  else
  jn (fun (j26 : Int32) =>
  (m_emits r25.2 j26 (nI 0)).bind fun r29 =>
  again11 r29) (fun k27 =>
  if (bI r17) = 0 then
  k27 (nI 5)
  else
  k27 (nI 4))) (fun k23 =>
  if (bI r17) = 0 then
  if (r18 15 0) = 0 then
  k3 r18
  else
  k23 ()
  else
  k23 ())) (fun k20 =>
  if (bI r17) = 0 then
  if (r18 14 0) = (nI 3) then
  k20 ()
  else
  k7 r18
  else
  k20 ())) (fun k15 =>
  if (bI r13) = 0 then
  (m_isSign j10 (nI 47)).bind fun r30 =>
  if (bI r30) = 0 then
  some ((nI 0), j10)
  else
  k15 ()
  else
  k15 ())) fuel r1.2))
theorem wd_readProduct : yX4_readProduct.cls = RX4 ∧ yX4_readProduct.cls ≠ "java/lang/invoke/MethodHandle" ∧ yX4_readProduct.cls ≠ "java/lang/invoke/VarHandle" ∧ (parseMethodDescriptor yX4_readProduct.desc).map (fun d => d.parameters.length) = some 0 := by decide +kernel
set_option maxRecDepth 100000 in
theorem ct_readProduct (μ : Mem) : CtM yX4_readProduct cX4_readProduct 2 (some .int) 4 86 [] μ (fun r => (some (.int r.1), r.2)) (m_readProduct μ) := by
  refine CtM.of (by decide) rfl (fun _ => Nat.le_of_ble_eq_true rfl) ?_
  intro l D cl ci cA am p e s m args below meth c hcl K hr hlk hK
  refine g_sub (ls' := [(0, .ref am)]) [0] rfl ?_
  unfold m_readProduct
  refine g_aloadn K 0 rfl rfl 1 dX4_readProduct_0 rfl ?_
  refine gm_call K hK hcl 4 (ct_readUnit μ) (lw_V q1855 q1857 qs84 q158 q1858) wd_readUnit (by decide) rfl (Nat.le_of_ble_eq_true rfl) dX4_readProduct_1 rfl (fun r1 _ => ?_)
  refine g_iconst K (-1 : Int32) ic_m1 5 dX4_readProduct_4 rfl ?_
  refine g_icmp_ne K 8 10 dX4_readProduct_5 rfl (by decide) (fun _ => ?_) (fun _ => ?_)
  · refine g_iconst K (-1 : Int32) ic_m1 9 dX4_readProduct_8 rfl ?_
    exact gm_iret K hK hcl hr hlk dX4_readProduct_9 rfl
  · refine g_jn (head := 68) (L := fun j2 => [(0, .ref am)]) (sf := fun j2 => []) (mf := fun j2 => j2) (fun j2 => ?_) (fun k3 h4 => ?_)
    · try dsimp only
      refine g_aloadn K 0 rfl rfl 69 dX4_readProduct_68 rfl ?_
      refine g_iconst K (nI 2) ic_2 70 dX4_readProduct_69 rfl ?_
      refine gm_call K hK hcl 73 (ct_errs j2 (nI 2)) (lw_V q1799 q1801 qs70 q158 q1802) wd_errs (by decide) rfl (Nat.le_of_ble_eq_true rfl) dX4_readProduct_70 rfl (fun r5 _ => ?_)
      exact gm_iret K hK hcl hr hlk dX4_readProduct_73 rfl
    · refine g_jn (head := 51) (L := fun j6 => [(0, .ref am)]) (sf := fun j6 => []) (mf := fun j6 => j6) (fun j6 => ?_) (fun k7 h8 => ?_)
      · try dsimp only
        refine g_aloadn K 0 rfl rfl 52 dX4_readProduct_51 rfl ?_
        refine g_iconst K (nI 1) ic_1 53 dX4_readProduct_52 rfl ?_
        refine gm_call K hK hcl 56 (ct_errs j6 (nI 1)) (lw_V q1799 q1801 qs70 q158 q1802) wd_errs (by decide) rfl (Nat.le_of_ble_eq_true rfl) dX4_readProduct_53 rfl (fun r9 _ => ?_)
        exact gm_iret K hK hcl hr hlk dX4_readProduct_56 rfl
      · refine g_lp (head := 10) (L := fun j10 => [(0, .ref am)]) (sf := fun j10 => []) (mf := fun j10 => j10) (fun again11 h12 j10 => ?_) fuel r1.2
        try dsimp only
        refine g_aloadn K 0 rfl rfl 11 dX4_readProduct_10 rfl ?_
        refine g_bipush K (nI 42) bp_42 13 dX4_readProduct_11 rfl ?_
        refine gm_call K hK hcl 16 (ct_isSign j10 (nI 42)) (lw_V q1819 q1821 qs75 q158 q1822) wd_isSign (by decide) rfl (Nat.le_of_ble_eq_true rfl) dX4_readProduct_13 rfl (fun r13 _ => ?_)
        refine g_jn (head := 28) (L := fun j14 => [(0, .ref am)]) (sf := fun j14 => []) (mf := fun j14 => j10) (fun j14 => ?_) (fun k15 h16 => ?_)
        · try dsimp only
          refine g_aloadn K 0 rfl rfl 29 dX4_readProduct_28 rfl ?_
          refine g_bipush K (nI 42) bp_42 31 dX4_readProduct_29 rfl ?_
          refine gm_call K hK hcl 34 (ct_isSign j10 (nI 42)) (lw_V q1819 q1821 qs75 q158 q1822) wd_isSign (by decide) rfl (Nat.le_of_ble_eq_true rfl) dX4_readProduct_31 rfl (fun r17 _ => ?_)
          refine g_istoren K [(0, .ref am), (1, .int (bI r17))] [1, 0] rfl (by decide) rfl 35 dX4_readProduct_34 rfl ?_
          refine g_aloadn K 0 rfl rfl 36 dX4_readProduct_35 rfl ?_
          refine gm_call K hK hcl 39 (ct_reads j10) (lw_V q1767 q1769 qs62 q158 q1770) wd_reads (by decide) rfl (Nat.le_of_ble_eq_true rfl) dX4_readProduct_36 rfl (fun r18 _ => ?_)
          refine g_iloadn K 1 rfl rfl 40 dX4_readProduct_39 rfl ?_
          refine g_jn (head := 57) (L := fun j19 => [(0, .ref am), (1, .int (bI r17))]) (sf := fun j19 => []) (mf := fun j19 => r18) (fun j19 => ?_) (fun k20 h21 => ?_)
          · try dsimp only
            refine g_iloadn K 1 rfl rfl 58 dX4_readProduct_57 rfl ?_
            refine g_jn (head := 74) (L := fun j22 => [(0, .ref am), (1, .int (bI r17))]) (sf := fun j22 => []) (mf := fun j22 => r18) (fun j22 => ?_) (fun k23 h24 => ?_)
            · try dsimp only
              refine g_aloadn K 0 rfl rfl 75 dX4_readProduct_74 rfl ?_
              refine gm_call K hK hcl 78 (ct_readUnit r18) (lw_V q1855 q1857 qs84 q158 q1858) wd_readUnit (by decide) rfl (Nat.le_of_ble_eq_true rfl) dX4_readProduct_75 rfl (fun r25 _ => ?_)
              refine g_iconst K (-1 : Int32) ic_m1 79 dX4_readProduct_78 rfl ?_
              refine g_icmp_ne K 82 84 dX4_readProduct_79 rfl (by decide) (fun _ => ?_) (fun _ => ?_)
              · refine g_iconst K (-1 : Int32) ic_m1 83 dX4_readProduct_82 rfl ?_
                exact gm_iret K hK hcl hr hlk dX4_readProduct_83 rfl
              · refine g_aloadn K 0 rfl rfl 85 dX4_readProduct_84 rfl ?_
                refine g_iloadn K 1 rfl rfl 86 dX4_readProduct_85 rfl ?_
                refine g_jn (head := 94) (L := fun j26 => [(0, .ref am)]) (sf := fun j26 => [.int j26, .ref am]) (mf := fun j26 => r25.2) (fun j26 => ?_) (fun k27 h28 => ?_)
                · try dsimp only
                  refine g_iconst K (nI 0) ic_0 95 dX4_readProduct_94 rfl ?_
                  refine gm_call K hK hcl 98 (ct_emits r25.2 j26 (nI 0)) (lw_V q1863 q1865 qs86 q158 q1866) wd_emits (by decide) rfl (Nat.le_of_ble_eq_true rfl) dX4_readProduct_95 rfl (fun r29 _ => ?_)
                  refine g_goto K 10 dX4_readProduct_98 (by decide) ?_
                  exact h12 r29
                · refine g_if_eq K 89 93 dX4_readProduct_86 rfl (by decide) (fun _ => ?_) (fun _ => ?_)
                  · refine g_iconst K (nI 5) ic_5 94 dX4_readProduct_93 rfl ?_
                    refine g_sub (ls' := [(0, .ref am)]) [0] rfl ?_
                    exact h28 (nI 5)
                  · refine g_iconst K (nI 4) ic_4 90 dX4_readProduct_89 rfl ?_
                    refine g_goto K 94 dX4_readProduct_90 (by decide) ?_
                    refine g_sub (ls' := [(0, .ref am)]) [0] rfl ?_
                    exact h28 (nI 4)
            · refine g_if_ne K 61 74 dX4_readProduct_58 rfl (by decide) (fun _ => ?_) (fun _ => ?_)
              · refine g_aloadn K 0 rfl rfl 62 dX4_readProduct_61 rfl ?_
                refine gm_get K hK hcl 15 65 (by decide) q1500 rfl dX4_readProduct_62 rfl ?_
                refine g_if_ne K 68 74 dX4_readProduct_65 rfl (by decide) (fun _ => ?_) (fun _ => ?_)
                · refine g_sub (ls' := [(0, .ref am)]) [0] rfl ?_
                  exact h4 r18
                · exact h24 ()
              · exact h24 ()
          · refine g_if_ne K 43 57 dX4_readProduct_40 rfl (by decide) (fun _ => ?_) (fun _ => ?_)
            · refine g_aloadn K 0 rfl rfl 44 dX4_readProduct_43 rfl ?_
              refine gm_get K hK hcl 14 47 (by decide) q1499 rfl dX4_readProduct_44 rfl ?_
              refine g_iconst K (nI 3) ic_3 48 dX4_readProduct_47 rfl ?_
              refine g_icmp_eq K 51 57 dX4_readProduct_48 rfl (by decide) (fun _ => ?_) (fun _ => ?_)
              · exact h21 ()
              · refine g_sub (ls' := [(0, .ref am)]) [0] rfl ?_
                exact h8 r18
            · exact h21 ()
        · refine g_if_ne K 19 28 dX4_readProduct_16 rfl (by decide) (fun _ => ?_) (fun _ => ?_)
          · refine g_aloadn K 0 rfl rfl 20 dX4_readProduct_19 rfl ?_
            refine g_bipush K (nI 47) bp_47 22 dX4_readProduct_20 rfl ?_
            refine gm_call K hK hcl 25 (ct_isSign j10 (nI 47)) (lw_V q1819 q1821 qs75 q158 q1822) wd_isSign (by decide) rfl (Nat.le_of_ble_eq_true rfl) dX4_readProduct_22 rfl (fun r30 _ => ?_)
            refine g_if_eq K 28 101 dX4_readProduct_25 rfl (by decide) (fun _ => ?_) (fun _ => ?_)
            · refine g_iconst K (nI 0) ic_0 102 dX4_readProduct_101 rfl ?_
              exact gm_iret K hK hcl hr hlk dX4_readProduct_102 rfl
            · exact h16 ()
          · exact h16 ()
/-- readSum()I -/
def m_readSum (μ : Mem) : Option (Int32 × Mem) :=
  (m_readProduct μ).bind fun r1 =>
  if r1.1 = (-1 : Int32) then
  some ((-1 : Int32), r1.2)
  else
  lp (fun again3 (j2 : Mem) =>
  (m_isSign j2 (nI 43)).bind fun r5 =>
  jn (fun (j6 : Unit) =>
  jn (fun (j9 : Int32) =>
  (m_reads j2).bind fun r12 =>
  (m_readProduct r12).bind fun r13 =>
  if r13.1 = (-1 : Int32) then
  some ((-1 : Int32), r13.2)
  else
  (m_emits r13.2 j9 (nI 0)).bind fun r14 =>
  again3 r14) (fun k10 =>
  if (j2 15 0) = (nI 43) then
  k10 (nI 2)
  else
  k10 (nI 3))) (fun k7 =>
  if (bI r5) = 0 then
  (m_isSign j2 (nI 45)).bind fun r15 =>
  if (bI r15) = 0 then
  some ((nI 0), j2)
  else
  k7 ()
  else
  k7 ())) fuel r1.2
theorem wd_readSum : yX4_readSum.cls = RX4 ∧ yX4_readSum.cls ≠ "java/lang/invoke/MethodHandle" ∧ yX4_readSum.cls ≠ "java/lang/invoke/VarHandle" ∧ (parseMethodDescriptor yX4_readSum.desc).map (fun d => d.parameters.length) = some 0 := by decide +kernel
set_option maxRecDepth 100000 in
theorem ct_readSum (μ : Mem) : CtM yX4_readSum cX4_readSum 2 (some .int) 5 107 [] μ (fun r => (some (.int r.1), r.2)) (m_readSum μ) := by
  refine CtM.of (by decide) rfl (fun _ => Nat.le_of_ble_eq_true rfl) ?_
  intro l D cl ci cA am p e s m args below meth c hcl K hr hlk hK
  refine g_sub (ls' := [(0, .ref am)]) [0] rfl ?_
  unfold m_readSum
  refine g_aloadn K 0 rfl rfl 1 dX4_readSum_0 rfl ?_
  refine gm_call K hK hcl 4 (ct_readProduct μ) (lw_V q1851 q1853 qs83 q158 q1854) wd_readProduct (by decide) rfl (Nat.le_of_ble_eq_true rfl) dX4_readSum_1 rfl (fun r1 _ => ?_)
  refine g_iconst K (-1 : Int32) ic_m1 5 dX4_readSum_4 rfl ?_
  refine g_icmp_ne K 8 10 dX4_readSum_5 rfl (by decide) (fun _ => ?_) (fun _ => ?_)
  · refine g_iconst K (-1 : Int32) ic_m1 9 dX4_readSum_8 rfl ?_
    exact gm_iret K hK hcl hr hlk dX4_readSum_9 rfl
  · refine g_lp (head := 10) (L := fun j2 => [(0, .ref am)]) (sf := fun j2 => []) (mf := fun j2 => j2) (fun again3 h4 j2 => ?_) fuel r1.2
    try dsimp only
    refine g_aloadn K 0 rfl rfl 11 dX4_readSum_10 rfl ?_
    refine g_bipush K (nI 43) bp_43 13 dX4_readSum_11 rfl ?_
    refine gm_call K hK hcl 16 (ct_isSign j2 (nI 43)) (lw_V q1819 q1821 qs75 q158 q1822) wd_isSign (by decide) rfl (Nat.le_of_ble_eq_true rfl) dX4_readSum_13 rfl (fun r5 _ => ?_)
    refine g_jn (head := 28) (L := fun j6 => [(0, .ref am)]) (sf := fun j6 => []) (mf := fun j6 => j2) (fun j6 => ?_) (fun k7 h8 => ?_)
    · try dsimp only
      refine g_aloadn K 0 rfl rfl 29 dX4_readSum_28 rfl ?_
      refine gm_get K hK hcl 15 32 (by decide) q1500 rfl dX4_readSum_29 rfl ?_
      refine g_bipush K (nI 43) bp_43 34 dX4_readSum_32 rfl ?_
      refine g_jn (head := 42) (L := fun j9 => [(0, .ref am)]) (sf := fun j9 => [.int j9]) (mf := fun j9 => j2) (fun j9 => ?_) (fun k10 h11 => ?_)
      · try dsimp only
        refine g_istoren K [(0, .ref am), (1, .int j9)] [1, 0] rfl (by decide) rfl 43 dX4_readSum_42 rfl ?_
        refine g_aloadn K 0 rfl rfl 44 dX4_readSum_43 rfl ?_
        refine gm_call K hK hcl 47 (ct_reads j2) (lw_V q1767 q1769 qs62 q158 q1770) wd_reads (by decide) rfl (Nat.le_of_ble_eq_true rfl) dX4_readSum_44 rfl (fun r12 _ => ?_)
        refine g_aloadn K 0 rfl rfl 48 dX4_readSum_47 rfl ?_
        refine gm_call K hK hcl 51 (ct_readProduct r12) (lw_V q1851 q1853 qs83 q158 q1854) wd_readProduct (by decide) rfl (Nat.le_of_ble_eq_true rfl) dX4_readSum_48 rfl (fun r13 _ => ?_)
        refine g_iconst K (-1 : Int32) ic_m1 52 dX4_readSum_51 rfl ?_
        refine g_icmp_ne K 55 57 dX4_readSum_52 rfl (by decide) (fun _ => ?_) (fun _ => ?_)
        · refine g_iconst K (-1 : Int32) ic_m1 56 dX4_readSum_55 rfl ?_
          exact gm_iret K hK hcl hr hlk dX4_readSum_56 rfl
        · refine g_aloadn K 0 rfl rfl 58 dX4_readSum_57 rfl ?_
          refine g_iloadn K 1 rfl rfl 59 dX4_readSum_58 rfl ?_
          refine g_iconst K (nI 0) ic_0 60 dX4_readSum_59 rfl ?_
          refine gm_call K hK hcl 63 (ct_emits r13.2 j9 (nI 0)) (lw_V q1863 q1865 qs86 q158 q1866) wd_emits (by decide) rfl (Nat.le_of_ble_eq_true rfl) dX4_readSum_60 rfl (fun r14 _ => ?_)
          refine g_goto K 10 dX4_readSum_63 (by decide) ?_
          refine g_sub (ls' := [(0, .ref am)]) [0] rfl ?_
          exact h4 r14
      · refine g_icmp_ne K 37 41 dX4_readSum_34 rfl (by decide) (fun _ => ?_) (fun _ => ?_)
        · refine g_iconst K (nI 2) ic_2 38 dX4_readSum_37 rfl ?_
          refine g_goto K 42 dX4_readSum_38 (by decide) ?_
          exact h11 (nI 2)
        · refine g_iconst K (nI 3) ic_3 42 dX4_readSum_41 rfl ?_
          exact h11 (nI 3)
    · refine g_if_ne K 19 28 dX4_readSum_16 rfl (by decide) (fun _ => ?_) (fun _ => ?_)
      · refine g_aloadn K 0 rfl rfl 20 dX4_readSum_19 rfl ?_
        refine g_bipush K (nI 45) bp_45 22 dX4_readSum_20 rfl ?_
        refine gm_call K hK hcl 25 (ct_isSign j2 (nI 45)) (lw_V q1819 q1821 qs75 q158 q1822) wd_isSign (by decide) rfl (Nat.le_of_ble_eq_true rfl) dX4_readSum_22 rfl (fun r15 _ => ?_)
        refine g_if_eq K 28 66 dX4_readSum_25 rfl (by decide) (fun _ => ?_) (fun _ => ?_)
        · refine g_iconst K (nI 0) ic_0 67 dX4_readSum_66 rfl ?_
          exact gm_iret K hK hcl hr hlk dX4_readSum_67 rfl
        · exact h8 ()
      · exact h8 ()
/-- waits(I)V -/
def m_waits (μ : Mem) (x1 : Int32) : Option (Mem) :=
  (wr μ 27 40 (μ 28 0) x1).bind fun μ1 =>
  nm (up2 μ1 28 0 ((μ1 28 0) + (nI 1))) fun μ2 =>
  some μ2
theorem wd_waits : yX4_waits.cls = RX4 ∧ yX4_waits.cls ≠ "java/lang/invoke/MethodHandle" ∧ yX4_waits.cls ≠ "java/lang/invoke/VarHandle" ∧ (parseMethodDescriptor yX4_waits.desc).map (fun d => d.parameters.length) = some 1 := by decide +kernel
set_option maxRecDepth 100000 in
theorem ct_waits (μ : Mem) (x1 : Int32) : CtM yX4_waits cX4_waits 2 none 0 0 [.int x1] μ (fun r => (none, r)) (m_waits μ x1) := by
  refine CtM.of (by decide) rfl (fun _ => Nat.le_of_ble_eq_true rfl) ?_
  intro l D cl ci cA am p e s m args below meth c hcl K hr hlk hK
  refine g_sub (ls' := [(0, .ref am), (1, .int x1)]) [0, 1] rfl ?_
  unfold m_waits
  refine g_aloadn K 0 rfl rfl 1 dX4_waits_0 rfl ?_
  refine gm_get K hK hcl 27 4 (by decide) q1512 rfl dX4_waits_1 rfl ?_
  refine g_aloadn K 0 rfl rfl 5 dX4_waits_4 rfl ?_
  refine gm_get K hK hcl 28 8 (by decide) q1513 rfl dX4_waits_5 rfl ?_
  refine g_iloadn K 1 rfl rfl 9 dX4_waits_8 rfl ?_
  refine gm_ast K hK hcl 27 16 40 10 rfl (fun _ => rfl) dX4_waits_9 rfl (fun μ1 _ => ?_)
  refine g_aloadn K 0 rfl rfl 11 dX4_waits_10 rfl ?_
  refine g_aloadn K 0 rfl rfl 12 dX4_waits_11 rfl ?_
  refine gm_get K hK hcl 28 15 (by decide) q1513 rfl dX4_waits_12 rfl ?_
  refine g_iconst K (nI 1) ic_1 16 dX4_waits_15 rfl ?_
  refine g_iadd K 17 dX4_waits_16 rfl ?_
  refine gm_put K hK hcl 28 (ty := .int) 20 (by decide) q1513 rfl (by decide +kernel) rfl rfl rfl dX4_waits_17 rfl (fun μ2 _ => ?_)
  exact gm_vret K hK hcl hr hlk dX4_waits_20 rfl
/-- readCompared()I -/
def m_readCompared (μ : Mem) : Option (Int32 × Mem) :=
  (m_readSum μ).bind fun r1 =>
  if r1.1 = (-1 : Int32) then
  some ((-1 : Int32), r1.2)
  else
  (m_isSign r1.2 (nI 60)).bind fun r2 =>
  jn (fun (j3 : Unit) =>
  jn (fun (j6 : Int32) =>
  (m_reads r1.2).bind fun r9 =>
  (m_readSum r9).bind fun r10 =>
  if r10.1 = (-1 : Int32) then
  some ((-1 : Int32), r10.2)
  else
  (m_emits r10.2 j6 (nI 0)).bind fun r11 =>
  some ((nI 0), r11)) (fun k7 =>
  if (r1.2 15 0) = (nI 60) then
  k7 (nI 6)
  else
  if (r1.2 15 0) = (nI 61) then
  k7 (nI 7)
  else
  k7 (nI 8))) (fun k4 =>
  if (bI r2) = 0 then
  (m_isSign r1.2 (nI 61)).bind fun r12 =>
  if (bI r12) = 0 then
  (m_isSign r1.2 (nI 62)).bind fun r13 =>
  if (bI r13) = 0 then
  (m_errs r1.2 (nI 1)).bind fun r14 =>
  some (r14.1, r14.2)
  else
  k4 ()
  else
  k4 ()
  else
  k4 ())
theorem wd_readCompared : yX4_readCompared.cls = RX4 ∧ yX4_readCompared.cls ≠ "java/lang/invoke/MethodHandle" ∧ yX4_readCompared.cls ≠ "java/lang/invoke/VarHandle" ∧ (parseMethodDescriptor yX4_readCompared.desc).map (fun d => d.parameters.length) = some 0 := by decide +kernel
set_option maxRecDepth 100000 in
theorem ct_readCompared (μ : Mem) : CtM yX4_readCompared cX4_readCompared 2 (some .int) 6 128 [] μ (fun r => (some (.int r.1), r.2)) (m_readCompared μ) := by
  refine CtM.of (by decide) rfl (fun _ => Nat.le_of_ble_eq_true rfl) ?_
  intro l D cl ci cA am p e s m args below meth c hcl K hr hlk hK
  refine g_sub (ls' := [(0, .ref am)]) [0] rfl ?_
  unfold m_readCompared
  refine g_aloadn K 0 rfl rfl 1 dX4_readCompared_0 rfl ?_
  refine gm_call K hK hcl 4 (ct_readSum μ) (lw_V q1847 q1849 qs82 q158 q1850) wd_readSum (by decide) rfl (Nat.le_of_ble_eq_true rfl) dX4_readCompared_1 rfl (fun r1 _ => ?_)
  refine g_iconst K (-1 : Int32) ic_m1 5 dX4_readCompared_4 rfl ?_
  refine g_icmp_ne K 8 10 dX4_readCompared_5 rfl (by decide) (fun _ => ?_) (fun _ => ?_)
  · refine g_iconst K (-1 : Int32) ic_m1 9 dX4_readCompared_8 rfl ?_
    exact gm_iret K hK hcl hr hlk dX4_readCompared_9 rfl
  · refine g_aloadn K 0 rfl rfl 11 dX4_readCompared_10 rfl ?_
    refine g_bipush K (nI 60) bp_60 13 dX4_readCompared_11 rfl ?_
    refine gm_call K hK hcl 16 (ct_isSign r1.2 (nI 60)) (lw_V q1819 q1821 qs75 q158 q1822) wd_isSign (by decide) rfl (Nat.le_of_ble_eq_true rfl) dX4_readCompared_13 rfl (fun r2 _ => ?_)
    refine g_jn (head := 43) (L := fun j3 => [(0, .ref am)]) (sf := fun j3 => []) (mf := fun j3 => r1.2) (fun j3 => ?_) (fun k4 h5 => ?_)
    · try dsimp only
      refine g_aloadn K 0 rfl rfl 44 dX4_readCompared_43 rfl ?_
      refine gm_get K hK hcl 15 47 (by decide) q1500 rfl dX4_readCompared_44 rfl ?_
      refine g_bipush K (nI 60) bp_60 49 dX4_readCompared_47 rfl ?_
      refine g_jn (head := 73) (L := fun j6 => [(0, .ref am)]) (sf := fun j6 => [.int j6]) (mf := fun j6 => r1.2) (fun j6 => ?_) (fun k7 h8 => ?_)
      · try dsimp only
        refine g_istoren K [(0, .ref am), (1, .int j6)] [1, 0] rfl (by decide) rfl 74 dX4_readCompared_73 rfl ?_
        refine g_aloadn K 0 rfl rfl 75 dX4_readCompared_74 rfl ?_
        refine gm_call K hK hcl 78 (ct_reads r1.2) (lw_V q1767 q1769 qs62 q158 q1770) wd_reads (by decide) rfl (Nat.le_of_ble_eq_true rfl) dX4_readCompared_75 rfl (fun r9 _ => ?_)
        refine g_aloadn K 0 rfl rfl 79 dX4_readCompared_78 rfl ?_
        refine gm_call K hK hcl 82 (ct_readSum r9) (lw_V q1847 q1849 qs82 q158 q1850) wd_readSum (by decide) rfl (Nat.le_of_ble_eq_true rfl) dX4_readCompared_79 rfl (fun r10 _ => ?_)
        refine g_iconst K (-1 : Int32) ic_m1 83 dX4_readCompared_82 rfl ?_
        refine g_icmp_ne K 86 88 dX4_readCompared_83 rfl (by decide) (fun _ => ?_) (fun _ => ?_)
        · refine g_iconst K (-1 : Int32) ic_m1 87 dX4_readCompared_86 rfl ?_
          exact gm_iret K hK hcl hr hlk dX4_readCompared_87 rfl
        · refine g_aloadn K 0 rfl rfl 89 dX4_readCompared_88 rfl ?_
          refine g_iloadn K 1 rfl rfl 90 dX4_readCompared_89 rfl ?_
          refine g_iconst K (nI 0) ic_0 91 dX4_readCompared_90 rfl ?_
          refine gm_call K hK hcl 94 (ct_emits r10.2 j6 (nI 0)) (lw_V q1863 q1865 qs86 q158 q1866) wd_emits (by decide) rfl (Nat.le_of_ble_eq_true rfl) dX4_readCompared_91 rfl (fun r11 _ => ?_)
          refine g_iconst K (nI 0) ic_0 95 dX4_readCompared_94 rfl ?_
          exact gm_iret K hK hcl hr hlk dX4_readCompared_95 rfl
      · refine g_icmp_ne K 52 57 dX4_readCompared_49 rfl (by decide) (fun _ => ?_) (fun _ => ?_)
        · refine g_bipush K (nI 6) bp_6 54 dX4_readCompared_52 rfl ?_
          refine g_goto K 73 dX4_readCompared_54 (by decide) ?_
          exact h8 (nI 6)
        · refine g_aloadn K 0 rfl rfl 58 dX4_readCompared_57 rfl ?_
          refine gm_get K hK hcl 15 61 (by decide) q1500 rfl dX4_readCompared_58 rfl ?_
          refine g_bipush K (nI 61) bp_61 63 dX4_readCompared_61 rfl ?_
          refine g_icmp_ne K 66 71 dX4_readCompared_63 rfl (by decide) (fun _ => ?_) (fun _ => ?_)
          · refine g_bipush K (nI 7) bp_7 68 dX4_readCompared_66 rfl ?_
            refine g_goto K 73 dX4_readCompared_68 (by decide) ?_
            exact h8 (nI 7)
          · refine g_bipush K (nI 8) bp_8 73 dX4_readCompared_71 rfl ?_
            exact h8 (nI 8)
    · refine g_if_ne K 19 43 dX4_readCompared_16 rfl (by decide) (fun _ => ?_) (fun _ => ?_)
      · refine g_aloadn K 0 rfl rfl 20 dX4_readCompared_19 rfl ?_
        refine g_bipush K (nI 61) bp_61 22 dX4_readCompared_20 rfl ?_
        refine gm_call K hK hcl 25 (ct_isSign r1.2 (nI 61)) (lw_V q1819 q1821 qs75 q158 q1822) wd_isSign (by decide) rfl (Nat.le_of_ble_eq_true rfl) dX4_readCompared_22 rfl (fun r12 _ => ?_)
        refine g_if_ne K 28 43 dX4_readCompared_25 rfl (by decide) (fun _ => ?_) (fun _ => ?_)
        · refine g_aloadn K 0 rfl rfl 29 dX4_readCompared_28 rfl ?_
          refine g_bipush K (nI 62) bp_62 31 dX4_readCompared_29 rfl ?_
          refine gm_call K hK hcl 34 (ct_isSign r1.2 (nI 62)) (lw_V q1819 q1821 qs75 q158 q1822) wd_isSign (by decide) rfl (Nat.le_of_ble_eq_true rfl) dX4_readCompared_31 rfl (fun r13 _ => ?_)
          refine g_if_ne K 37 43 dX4_readCompared_34 rfl (by decide) (fun _ => ?_) (fun _ => ?_)
          · refine g_aloadn K 0 rfl rfl 38 dX4_readCompared_37 rfl ?_
            refine g_iconst K (nI 1) ic_1 39 dX4_readCompared_38 rfl ?_
            refine gm_call K hK hcl 42 (ct_errs r1.2 (nI 1)) (lw_V q1799 q1801 qs70 q158 q1802) wd_errs (by decide) rfl (Nat.le_of_ble_eq_true rfl) dX4_readCompared_39 rfl (fun r14 _ => ?_)
            exact gm_iret K hK hcl hr hlk dX4_readCompared_42 rfl
          · exact h5 ()
        · exact h5 ()
      · exact h5 ()
/-- settles(I)V -/
def m_settles (μ : Mem) (x1 : Int32) : Option (Mem) :=
  lp (fun again2 (j1 : Mem) =>
  if (j1 28 0) ≤ 0 then
  some j1
  else
  (rd j1 27 40 ((j1 28 0) - (nI 1))).bind fun v4 =>
  if v4 = x1 then
  nm (up2 j1 28 0 ((j1 28 0) - (nI 1))) fun μ5 =>
  (m_emits μ5 x1 (nI 0)).bind fun r6 =>
  if x1 = (nI 9) then
  nm (up2 r6 26 0 ((r6 26 0) - (nI 1))) fun μ7 =>
  again2 μ7
  else
  again2 r6
  else
  some j1) fuel μ
theorem wd_settles : yX4_settles.cls = RX4 ∧ yX4_settles.cls ≠ "java/lang/invoke/MethodHandle" ∧ yX4_settles.cls ≠ "java/lang/invoke/VarHandle" ∧ (parseMethodDescriptor yX4_settles.desc).map (fun d => d.parameters.length) = some 1 := by decide +kernel
set_option maxRecDepth 100000 in
theorem ct_settles (μ : Mem) (x1 : Int32) : CtM yX4_settles cX4_settles 2 none 1 22 [.int x1] μ (fun r => (none, r)) (m_settles μ x1) := by
  refine CtM.of (by decide) rfl (fun _ => Nat.le_of_ble_eq_true rfl) ?_
  intro l D cl ci cA am p e s m args below meth c hcl K hr hlk hK
  refine g_sub (ls' := [(0, .ref am), (1, .int x1)]) [0, 1] rfl ?_
  unfold m_settles
  refine g_lp (head := 0) (L := fun j1 => [(0, .ref am), (1, .int x1)]) (sf := fun j1 => []) (mf := fun j1 => j1) (fun again2 h3 j1 => ?_) fuel μ
  try dsimp only
  refine g_aloadn K 0 rfl rfl 1 dX4_settles_0 rfl ?_
  refine gm_get K hK hcl 28 4 (by decide) q1513 rfl dX4_settles_1 rfl ?_
  refine g_if_le K 7 57 dX4_settles_4 rfl (by decide) (fun _ => ?_) (fun _ => ?_)
  · exact gm_vret K hK hcl hr hlk dX4_settles_57 rfl
  · refine g_aloadn K 0 rfl rfl 8 dX4_settles_7 rfl ?_
    refine gm_get K hK hcl 27 11 (by decide) q1512 rfl dX4_settles_8 rfl ?_
    refine g_aloadn K 0 rfl rfl 12 dX4_settles_11 rfl ?_
    refine gm_get K hK hcl 28 15 (by decide) q1513 rfl dX4_settles_12 rfl ?_
    refine g_iconst K (nI 1) ic_1 16 dX4_settles_15 rfl ?_
    refine g_isub K 17 dX4_settles_16 rfl ?_
    refine gm_ald K hK hcl 27 16 40 18 rfl dX4_settles_17 rfl (fun v4 _ => ?_)
    refine g_iloadn K 1 rfl rfl 19 dX4_settles_18 rfl ?_
    refine g_icmp_ne K 22 57 dX4_settles_19 rfl (by decide) (fun _ => ?_) (fun _ => ?_)
    · refine g_aloadn K 0 rfl rfl 23 dX4_settles_22 rfl ?_
      refine g_aloadn K 0 rfl rfl 24 dX4_settles_23 rfl ?_
      refine gm_get K hK hcl 28 27 (by decide) q1513 rfl dX4_settles_24 rfl ?_
      refine g_iconst K (nI 1) ic_1 28 dX4_settles_27 rfl ?_
      refine g_isub K 29 dX4_settles_28 rfl ?_
      refine gm_put K hK hcl 28 (ty := .int) 32 (by decide) q1513 rfl (by decide +kernel) rfl rfl rfl dX4_settles_29 rfl (fun μ5 _ => ?_)
      refine g_aloadn K 0 rfl rfl 33 dX4_settles_32 rfl ?_
      refine g_iloadn K 1 rfl rfl 34 dX4_settles_33 rfl ?_
      refine g_iconst K (nI 0) ic_0 35 dX4_settles_34 rfl ?_
      refine gm_call K hK hcl 38 (ct_emits μ5 x1 (nI 0)) (lw_V q1863 q1865 qs86 q158 q1866) wd_emits (by decide) rfl (Nat.le_of_ble_eq_true rfl) dX4_settles_35 rfl (fun r6 _ => ?_)
      refine g_iloadn K 1 rfl rfl 39 dX4_settles_38 rfl ?_
      refine g_bipush K (nI 9) bp_9 41 dX4_settles_39 rfl ?_
      refine g_icmp_ne K 44 0 dX4_settles_41 rfl (by decide) (fun _ => ?_) (fun _ => ?_)
      · refine g_aloadn K 0 rfl rfl 45 dX4_settles_44 rfl ?_
        refine g_aloadn K 0 rfl rfl 46 dX4_settles_45 rfl ?_
        refine gm_get K hK hcl 26 49 (by decide) q1511 rfl dX4_settles_46 rfl ?_
        refine g_iconst K (nI 1) ic_1 50 dX4_settles_49 rfl ?_
        refine g_isub K 51 dX4_settles_50 rfl ?_
        refine gm_put K hK hcl 26 (ty := .int) 54 (by decide) q1511 rfl (by decide +kernel) rfl rfl rfl dX4_settles_51 rfl (fun μ7 _ => ?_)
        refine g_goto K 0 dX4_settles_54 (by decide) ?_
        exact h3 μ7
      · exact h3 r6
    · exact gm_vret K hK hcl hr hlk dX4_settles_57 rfl
/-- readAny()I -/
def m_readAny (μ : Mem) : Option (Int32 × Mem) :=
  nm (up2 μ 28 0 (nI 0)) fun μ1 =>
  jn (fun (j2 : Mem) =>
  (m_errs j2 (nI 1)).bind fun r5 =>
  some (r5.1, r5.2)) (fun k3 =>
  jn (fun (j6 : Mem) =>
  (m_errs j6 (nI 3)).bind fun r9 =>
  some (r9.1, r9.2)) (fun k7 =>
  lp (fun again11 (j10 : Int32 × Int32 × Mem) =>
  if j10.2.1 = 0 then
  (m_isWord j10.2.2 (nI 5)).bind fun r13 =>
  if (bI r13) = 0 then
  (m_isWord j10.2.2 (nI 4)).bind fun r14 =>
  if (bI r14) = 0 then
  (m_settles j10.2.2 (nI 10)).bind fun r15 =>
  (m_settles r15 (nI 11)).bind fun r16 =>
  if j10.1 = 0 then
  some ((nI 0), r16)
  else
  (m_isSign r16 (nI 41)).bind fun r17 =>
  if (bI r17) = 0 then
  k3 r16
  else
  nm (up2 r16 28 0 ((r16 28 0) - (nI 1))) fun μ18 =>
  nm (j10.1 - (nI 1)) fun v19 =>
  nm (up2 μ18 26 0 ((μ18 26 0) - (nI 1))) fun μ20 =>
  (m_settles μ20 (nI 9)).bind fun r21 =>
  (m_reads r21).bind fun r22 =>
  again11 (v19, j10.2.1, r22)
  else
  (m_settles j10.2.2 (nI 10)).bind fun r23 =>
  (m_settles r23 (nI 11)).bind fun r24 =>
  (m_waits r24 (nI 11)).bind fun r25 =>
  (m_reads r25).bind fun r26 =>
  again11 (j10.1, (nI 1), r26)
  else
  (m_settles j10.2.2 (nI 10)).bind fun r27 =>
  (m_waits r27 (nI 10)).bind fun r28 =>
  (m_reads r28).bind fun r29 =>
  again11 (j10.1, (nI 1), r29)
  else
  (m_isWord j10.2.2 (nI 6)).bind fun r30 =>
  jn (fun (j31 : Unit) =>
  if (j10.2.2 26 0) = (nI 8) then
  k7 j10.2.2
  else
  nm (up2 j10.2.2 26 0 ((j10.2.2 26 0) + (nI 1))) fun μ34 =>
  jn (fun (j35 : Int32) =>
  jn (fun (j38 : Int32) =>
  (m_waits μ34 j38).bind fun r41 =>
  (m_reads r41).bind fun r42 =>
  again11 (j35, j10.2.1, r42)) (fun k39 =>
  if (bI r30) = 0 then
  k39 (nI 12)
  else
  k39 (nI 9))) (fun k36 =>
  if (bI r30) = 0 then
  k36 (j10.1 + (nI 1))
  else
  k36 j10.1)) (fun k32 =>
  if (bI r30) = 0 then
  (m_isSign j10.2.2 (nI 40)).bind fun r43 =>
  if (bI r43) = 0 then
  (m_readCompared j10.2.2).bind fun r44 =>
  if r44.1 = (-1 : Int32) then
  some ((-1 : Int32), r44.2)
  else
  (m_settles r44.2 (nI 9)).bind fun r45 =>
  again11 (j10.1, (nI 0), r45)
  else
  k32 ()
  else
  k32 ())) fuel ((nI 0), (nI 1), μ1)))
theorem wd_readAny : yX4_readAny.cls = RX4 ∧ yX4_readAny.cls ≠ "java/lang/invoke/MethodHandle" ∧ yX4_readAny.cls ≠ "java/lang/invoke/VarHandle" ∧ (parseMethodDescriptor yX4_readAny.desc).map (fun d => d.parameters.length) = some 0 := by decide +kernel
set_option maxRecDepth 100000 in
theorem ct_readAny (μ : Mem) : CtM yX4_readAny cX4_readAny 4 (some .int) 7 149 [] μ (fun r => (some (.int r.1), r.2)) (m_readAny μ) := by
  refine CtM.of (by decide) rfl (fun _ => Nat.le_of_ble_eq_true rfl) ?_
  intro l D cl ci cA am p e s m args below meth c hcl K hr hlk hK
  refine g_sub (ls' := [(0, .ref am)]) [0] rfl ?_
  unfold m_readAny
  refine g_iconst K (nI 0) ic_0 1 dX4_readAny_0 rfl ?_
  refine g_istoren K [(0, .ref am), (1, .int (nI 0))] [1, 0] rfl (by decide) rfl 2 dX4_readAny_1 rfl ?_
  refine g_aloadn K 0 rfl rfl 3 dX4_readAny_2 rfl ?_
  refine g_iconst K (nI 0) ic_0 4 dX4_readAny_3 rfl ?_
  refine gm_put K hK hcl 28 (ty := .int) 7 (by decide) q1513 rfl (by decide +kernel) rfl rfl rfl dX4_readAny_4 rfl (fun μ1 _ => ?_)
  refine g_iconst K (nI 1) ic_1 8 dX4_readAny_7 rfl ?_
  refine g_istoren K [(0, .ref am), (1, .int (nI 0)), (2, .int (nI 1))] [1, 2, 0] rfl (by decide) rfl 9 dX4_readAny_8 rfl ?_
  refine g_jn (head := 200) (L := fun j2 => [(0, .ref am)]) (sf := fun j2 => []) (mf := fun j2 => j2) (fun j2 => ?_) (fun k3 h4 => ?_)
  · try dsimp only
    refine g_aloadn K 0 rfl rfl 201 dX4_readAny_200 rfl ?_
    refine g_iconst K (nI 1) ic_1 202 dX4_readAny_201 rfl ?_
    refine gm_call K hK hcl 205 (ct_errs j2 (nI 1)) (lw_V q1799 q1801 qs70 q158 q1802) wd_errs (by decide) rfl (Nat.le_of_ble_eq_true rfl) dX4_readAny_202 rfl (fun r5 _ => ?_)
    exact gm_iret K hK hcl hr hlk dX4_readAny_205 rfl
  · refine g_jn (head := 42) (L := fun j6 => [(0, .ref am)]) (sf := fun j6 => []) (mf := fun j6 => j6) (fun j6 => ?_) (fun k7 h8 => ?_)
    · try dsimp only
      refine g_aloadn K 0 rfl rfl 43 dX4_readAny_42 rfl ?_
      refine g_iconst K (nI 3) ic_3 44 dX4_readAny_43 rfl ?_
      refine gm_call K hK hcl 47 (ct_errs j6 (nI 3)) (lw_V q1799 q1801 qs70 q158 q1802) wd_errs (by decide) rfl (Nat.le_of_ble_eq_true rfl) dX4_readAny_44 rfl (fun r9 _ => ?_)
      exact gm_iret K hK hcl hr hlk dX4_readAny_47 rfl
    · refine g_lp (head := 9) (L := fun j10 => [(0, .ref am), (1, .int j10.1), (2, .int j10.2.1)]) (sf := fun j10 => []) (mf := fun j10 => j10.2.2) (fun again11 h12 j10 => ?_) fuel ((nI 0), (nI 1), μ1)
      try dsimp only
      refine g_iloadn K 2 rfl rfl 10 dX4_readAny_9 rfl ?_
      refine g_if_eq K 13 109 dX4_readAny_10 rfl (by decide) (fun _ => ?_) (fun _ => ?_)
      · refine g_aloadn K 0 rfl rfl 110 dX4_readAny_109 rfl ?_
        refine g_iconst K (nI 5) ic_5 111 dX4_readAny_110 rfl ?_
        refine gm_call K hK hcl 114 (ct_isWord j10.2.2 (nI 5)) (lw_V q1795 q1797 qs69 q158 q1798) wd_isWord (by decide) rfl (Nat.le_of_ble_eq_true rfl) dX4_readAny_111 rfl (fun r13 _ => ?_)
        refine g_if_eq K 117 138 dX4_readAny_114 rfl (by decide) (fun _ => ?_) (fun _ => ?_)
        · refine g_aloadn K 0 rfl rfl 139 dX4_readAny_138 rfl ?_
          refine g_iconst K (nI 4) ic_4 140 dX4_readAny_139 rfl ?_
          refine gm_call K hK hcl 143 (ct_isWord j10.2.2 (nI 4)) (lw_V q1795 q1797 qs69 q158 q1798) wd_isWord (by decide) rfl (Nat.le_of_ble_eq_true rfl) dX4_readAny_140 rfl (fun r14 _ => ?_)
          refine g_if_eq K 146 173 dX4_readAny_143 rfl (by decide) (fun _ => ?_) (fun _ => ?_)
          · refine g_aloadn K 0 rfl rfl 174 dX4_readAny_173 rfl ?_
            refine g_bipush K (nI 10) bp_10 176 dX4_readAny_174 rfl ?_
            refine gm_call K hK hcl 179 (ct_settles j10.2.2 (nI 10)) (lw_V q1879 q1881 qs90 q158 q1882) wd_settles (by decide) rfl (Nat.le_of_ble_eq_true rfl) dX4_readAny_176 rfl (fun r15 _ => ?_)
            refine g_aloadn K 0 rfl rfl 180 dX4_readAny_179 rfl ?_
            refine g_bipush K (nI 11) bp_11 182 dX4_readAny_180 rfl ?_
            refine gm_call K hK hcl 185 (ct_settles r15 (nI 11)) (lw_V q1879 q1881 qs90 q158 q1882) wd_settles (by decide) rfl (Nat.le_of_ble_eq_true rfl) dX4_readAny_182 rfl (fun r16 _ => ?_)
            refine g_iloadn K 1 rfl rfl 186 dX4_readAny_185 rfl ?_
            refine g_if_ne K 189 191 dX4_readAny_186 rfl (by decide) (fun _ => ?_) (fun _ => ?_)
            · refine g_iconst K (nI 0) ic_0 190 dX4_readAny_189 rfl ?_
              exact gm_iret K hK hcl hr hlk dX4_readAny_190 rfl
            · refine g_aloadn K 0 rfl rfl 192 dX4_readAny_191 rfl ?_
              refine g_bipush K (nI 41) bp_41 194 dX4_readAny_192 rfl ?_
              refine gm_call K hK hcl 197 (ct_isSign r16 (nI 41)) (lw_V q1819 q1821 qs75 q158 q1822) wd_isSign (by decide) rfl (Nat.le_of_ble_eq_true rfl) dX4_readAny_194 rfl (fun r17 _ => ?_)
              refine g_if_ne K 200 206 dX4_readAny_197 rfl (by decide) (fun _ => ?_) (fun _ => ?_)
              · refine g_sub (ls' := [(0, .ref am)]) [0] rfl ?_
                exact h4 r16
              · refine g_aloadn K 0 rfl rfl 207 dX4_readAny_206 rfl ?_
                refine g_aloadn K 0 rfl rfl 208 dX4_readAny_207 rfl ?_
                refine gm_get K hK hcl 28 211 (by decide) q1513 rfl dX4_readAny_208 rfl ?_
                refine g_iconst K (nI 1) ic_1 212 dX4_readAny_211 rfl ?_
                refine g_isub K 213 dX4_readAny_212 rfl ?_
                refine gm_put K hK hcl 28 (ty := .int) 216 (by decide) q1513 rfl (by decide +kernel) rfl rfl rfl dX4_readAny_213 rfl (fun μ18 _ => ?_)
                refine g_iloadn K 1 rfl rfl 217 dX4_readAny_216 rfl ?_
                refine g_iconst K (nI 1) ic_1 218 dX4_readAny_217 rfl ?_
                refine g_isub K 219 dX4_readAny_218 rfl ?_
                refine g_nm (fun v19 _ => ?_)
                refine g_istoren K [(0, .ref am), (1, .int v19), (2, .int j10.2.1)] [1, 0, 2] rfl (by decide) rfl 220 dX4_readAny_219 rfl ?_
                refine g_aloadn K 0 rfl rfl 221 dX4_readAny_220 rfl ?_
                refine g_aloadn K 0 rfl rfl 222 dX4_readAny_221 rfl ?_
                refine gm_get K hK hcl 26 225 (by decide) q1511 rfl dX4_readAny_222 rfl ?_
                refine g_iconst K (nI 1) ic_1 226 dX4_readAny_225 rfl ?_
                refine g_isub K 227 dX4_readAny_226 rfl ?_
                refine gm_put K hK hcl 26 (ty := .int) 230 (by decide) q1511 rfl (by decide +kernel) rfl rfl rfl dX4_readAny_227 rfl (fun μ20 _ => ?_)
                refine g_aloadn K 0 rfl rfl 231 dX4_readAny_230 rfl ?_
                refine g_bipush K (nI 9) bp_9 233 dX4_readAny_231 rfl ?_
                refine gm_call K hK hcl 236 (ct_settles μ20 (nI 9)) (lw_V q1879 q1881 qs90 q158 q1882) wd_settles (by decide) rfl (Nat.le_of_ble_eq_true rfl) dX4_readAny_233 rfl (fun r21 _ => ?_)
                refine g_aloadn K 0 rfl rfl 237 dX4_readAny_236 rfl ?_
                refine gm_call K hK hcl 240 (ct_reads r21) (lw_V q1767 q1769 qs62 q158 q1770) wd_reads (by decide) rfl (Nat.le_of_ble_eq_true rfl) dX4_readAny_237 rfl (fun r22 _ => ?_)
                refine g_goto K 9 dX4_readAny_240 (by decide) ?_
                exact h12 (v19, j10.2.1, r22)
          · refine g_aloadn K 0 rfl rfl 147 dX4_readAny_146 rfl ?_
            refine g_bipush K (nI 10) bp_10 149 dX4_readAny_147 rfl ?_
            refine gm_call K hK hcl 152 (ct_settles j10.2.2 (nI 10)) (lw_V q1879 q1881 qs90 q158 q1882) wd_settles (by decide) rfl (Nat.le_of_ble_eq_true rfl) dX4_readAny_149 rfl (fun r23 _ => ?_)
            refine g_aloadn K 0 rfl rfl 153 dX4_readAny_152 rfl ?_
            refine g_bipush K (nI 11) bp_11 155 dX4_readAny_153 rfl ?_
            refine gm_call K hK hcl 158 (ct_settles r23 (nI 11)) (lw_V q1879 q1881 qs90 q158 q1882) wd_settles (by decide) rfl (Nat.le_of_ble_eq_true rfl) dX4_readAny_155 rfl (fun r24 _ => ?_)
            refine g_aloadn K 0 rfl rfl 159 dX4_readAny_158 rfl ?_
            refine g_bipush K (nI 11) bp_11 161 dX4_readAny_159 rfl ?_
            refine gm_call K hK hcl 164 (ct_waits r24 (nI 11)) (lw_V q1871 q1873 qs88 q158 q1874) wd_waits (by decide) rfl (Nat.le_of_ble_eq_true rfl) dX4_readAny_161 rfl (fun r25 _ => ?_)
            refine g_aloadn K 0 rfl rfl 165 dX4_readAny_164 rfl ?_
            refine gm_call K hK hcl 168 (ct_reads r25) (lw_V q1767 q1769 qs62 q158 q1770) wd_reads (by decide) rfl (Nat.le_of_ble_eq_true rfl) dX4_readAny_165 rfl (fun r26 _ => ?_)
            refine g_iconst K (nI 1) ic_1 169 dX4_readAny_168 rfl ?_
            refine g_istoren K [(0, .ref am), (1, .int j10.1), (2, .int (nI 1))] [1, 2, 0] rfl (by decide) rfl 170 dX4_readAny_169 rfl ?_
            refine g_goto K 9 dX4_readAny_170 (by decide) ?_
            exact h12 (j10.1, (nI 1), r26)
        · refine g_aloadn K 0 rfl rfl 118 dX4_readAny_117 rfl ?_
          refine g_bipush K (nI 10) bp_10 120 dX4_readAny_118 rfl ?_
          refine gm_call K hK hcl 123 (ct_settles j10.2.2 (nI 10)) (lw_V q1879 q1881 qs90 q158 q1882) wd_settles (by decide) rfl (Nat.le_of_ble_eq_true rfl) dX4_readAny_120 rfl (fun r27 _ => ?_)
          refine g_aloadn K 0 rfl rfl 124 dX4_readAny_123 rfl ?_
          refine g_bipush K (nI 10) bp_10 126 dX4_readAny_124 rfl ?_
          refine gm_call K hK hcl 129 (ct_waits r27 (nI 10)) (lw_V q1871 q1873 qs88 q158 q1874) wd_waits (by decide) rfl (Nat.le_of_ble_eq_true rfl) dX4_readAny_126 rfl (fun r28 _ => ?_)
          refine g_aloadn K 0 rfl rfl 130 dX4_readAny_129 rfl ?_
          refine gm_call K hK hcl 133 (ct_reads r28) (lw_V q1767 q1769 qs62 q158 q1770) wd_reads (by decide) rfl (Nat.le_of_ble_eq_true rfl) dX4_readAny_130 rfl (fun r29 _ => ?_)
          refine g_iconst K (nI 1) ic_1 134 dX4_readAny_133 rfl ?_
          refine g_istoren K [(0, .ref am), (1, .int j10.1), (2, .int (nI 1))] [1, 2, 0] rfl (by decide) rfl 135 dX4_readAny_134 rfl ?_
          refine g_goto K 9 dX4_readAny_135 (by decide) ?_
          exact h12 (j10.1, (nI 1), r29)
      · refine g_aloadn K 0 rfl rfl 14 dX4_readAny_13 rfl ?_
        refine g_bipush K (nI 6) bp_6 16 dX4_readAny_14 rfl ?_
        refine gm_call K hK hcl 19 (ct_isWord j10.2.2 (nI 6)) (lw_V q1795 q1797 qs69 q158 q1798) wd_isWord (by decide) rfl (Nat.le_of_ble_eq_true rfl) dX4_readAny_16 rfl (fun r30 _ => ?_)
        refine g_istoren K [(0, .ref am), (1, .int j10.1), (2, .int j10.2.1), (3, .int (bI r30))] [1, 2, 3, 0] rfl (by decide) rfl 20 dX4_readAny_19 rfl ?_
        refine g_iloadn K 3 rfl rfl 21 dX4_readAny_20 rfl ?_
        refine g_jn (head := 33) (L := fun j31 => [(0, .ref am), (1, .int j10.1), (2, .int j10.2.1), (3, .int (bI r30))]) (sf := fun j31 => []) (mf := fun j31 => j10.2.2) (fun j31 => ?_) (fun k32 h33 => ?_)
        · try dsimp only
          refine g_aloadn K 0 rfl rfl 34 dX4_readAny_33 rfl ?_
          refine gm_get K hK hcl 26 37 (by decide) q1511 rfl dX4_readAny_34 rfl ?_
          refine g_bipush K (nI 8) bp_8 39 dX4_readAny_37 rfl ?_
          refine g_icmp_ne K 42 48 dX4_readAny_39 rfl (by decide) (fun _ => ?_) (fun _ => ?_)
          · refine g_sub (ls' := [(0, .ref am)]) [0] rfl ?_
            exact h8 j10.2.2
          · refine g_aloadn K 0 rfl rfl 49 dX4_readAny_48 rfl ?_
            refine g_aloadn K 0 rfl rfl 50 dX4_readAny_49 rfl ?_
            refine gm_get K hK hcl 26 53 (by decide) q1511 rfl dX4_readAny_50 rfl ?_
            refine g_iconst K (nI 1) ic_1 54 dX4_readAny_53 rfl ?_
            refine g_iadd K 55 dX4_readAny_54 rfl ?_
            refine gm_put K hK hcl 26 (ty := .int) 58 (by decide) q1511 rfl (by decide +kernel) rfl rfl rfl dX4_readAny_55 rfl (fun μ34 _ => ?_)
            refine g_iloadn K 3 rfl rfl 59 dX4_readAny_58 rfl ?_
            refine g_jn (head := 66) (L := fun j35 => [(0, .ref am), (1, .int j35), (2, .int j10.2.1), (3, .int (bI r30))]) (sf := fun j35 => []) (mf := fun j35 => μ34) (fun j35 => ?_) (fun k36 h37 => ?_)
            · try dsimp only
              refine g_aloadn K 0 rfl rfl 67 dX4_readAny_66 rfl ?_
              refine g_iloadn K 3 rfl rfl 68 dX4_readAny_67 rfl ?_
              refine g_jn (head := 78) (L := fun j38 => [(0, .ref am), (1, .int j35), (2, .int j10.2.1)]) (sf := fun j38 => [.int j38, .ref am]) (mf := fun j38 => μ34) (fun j38 => ?_) (fun k39 h40 => ?_)
              · try dsimp only
                refine gm_call K hK hcl 81 (ct_waits μ34 j38) (lw_V q1871 q1873 qs88 q158 q1874) wd_waits (by decide) rfl (Nat.le_of_ble_eq_true rfl) dX4_readAny_78 rfl (fun r41 _ => ?_)
                refine g_aloadn K 0 rfl rfl 82 dX4_readAny_81 rfl ?_
                refine gm_call K hK hcl 85 (ct_reads r41) (lw_V q1767 q1769 qs62 q158 q1770) wd_reads (by decide) rfl (Nat.le_of_ble_eq_true rfl) dX4_readAny_82 rfl (fun r42 _ => ?_)
                refine g_goto K 9 dX4_readAny_85 (by decide) ?_
                exact h12 (j35, j10.2.1, r42)
              · refine g_if_eq K 71 76 dX4_readAny_68 rfl (by decide) (fun _ => ?_) (fun _ => ?_)
                · refine g_bipush K (nI 12) bp_12 78 dX4_readAny_76 rfl ?_
                  refine g_sub (ls' := [(0, .ref am), (1, .int j35), (2, .int j10.2.1)]) [0, 1, 2] rfl ?_
                  exact h40 (nI 12)
                · refine g_bipush K (nI 9) bp_9 73 dX4_readAny_71 rfl ?_
                  refine g_goto K 78 dX4_readAny_73 (by decide) ?_
                  refine g_sub (ls' := [(0, .ref am), (1, .int j35), (2, .int j10.2.1)]) [0, 1, 2] rfl ?_
                  exact h40 (nI 9)
            · refine g_if_ne K 62 66 dX4_readAny_59 rfl (by decide) (fun _ => ?_) (fun _ => ?_)
              · refine g_iloadn K 1 rfl rfl 63 dX4_readAny_62 rfl ?_
                refine g_iconst K (nI 1) ic_1 64 dX4_readAny_63 rfl ?_
                refine g_iadd K 65 dX4_readAny_64 rfl ?_
                refine g_istoren K [(0, .ref am), (1, .int (j10.1 + (nI 1))), (2, .int j10.2.1), (3, .int (bI r30))] [1, 0, 2, 3] rfl (by decide) rfl 66 dX4_readAny_65 rfl ?_
                exact h37 (j10.1 + (nI 1))
              · exact h37 j10.1
        · refine g_if_ne K 24 33 dX4_readAny_21 rfl (by decide) (fun _ => ?_) (fun _ => ?_)
          · refine g_aloadn K 0 rfl rfl 25 dX4_readAny_24 rfl ?_
            refine g_bipush K (nI 40) bp_40 27 dX4_readAny_25 rfl ?_
            refine gm_call K hK hcl 30 (ct_isSign j10.2.2 (nI 40)) (lw_V q1819 q1821 qs75 q158 q1822) wd_isSign (by decide) rfl (Nat.le_of_ble_eq_true rfl) dX4_readAny_27 rfl (fun r43 _ => ?_)
            refine g_if_eq K 33 88 dX4_readAny_30 rfl (by decide) (fun _ => ?_) (fun _ => ?_)
            · refine g_aloadn K 0 rfl rfl 89 dX4_readAny_88 rfl ?_
              refine gm_call K hK hcl 92 (ct_readCompared j10.2.2) (lw_V q1875 q1877 qs89 q158 q1878) wd_readCompared (by decide) rfl (Nat.le_of_ble_eq_true rfl) dX4_readAny_89 rfl (fun r44 _ => ?_)
              refine g_iconst K (-1 : Int32) ic_m1 93 dX4_readAny_92 rfl ?_
              refine g_icmp_ne K 96 98 dX4_readAny_93 rfl (by decide) (fun _ => ?_) (fun _ => ?_)
              · refine g_iconst K (-1 : Int32) ic_m1 97 dX4_readAny_96 rfl ?_
                exact gm_iret K hK hcl hr hlk dX4_readAny_97 rfl
              · refine g_aloadn K 0 rfl rfl 99 dX4_readAny_98 rfl ?_
                refine g_bipush K (nI 9) bp_9 101 dX4_readAny_99 rfl ?_
                refine gm_call K hK hcl 104 (ct_settles r44.2 (nI 9)) (lw_V q1879 q1881 qs90 q158 q1882) wd_settles (by decide) rfl (Nat.le_of_ble_eq_true rfl) dX4_readAny_101 rfl (fun r45 _ => ?_)
                refine g_iconst K (nI 0) ic_0 105 dX4_readAny_104 rfl ?_
                refine g_istoren K [(0, .ref am), (1, .int j10.1), (2, .int (nI 0))] [1, 2, 0] rfl (by decide) rfl 106 dX4_readAny_105 rfl ?_
                refine g_goto K 9 dX4_readAny_106 (by decide) ?_
                exact h12 (j10.1, (nI 0), r45)
            · exact h33 ()
          · exact h33 ()
/-- readLaw()I -/
def m_readLaw (μ : Mem) : Option (Int32 × Mem) :=
  jn (fun (j1 : Int32 × Mem) =>
  if (j1.2 14 0) = 0 then
  some (j1.1, j1.2)
  else
  (m_errs j1.2 (nI 1)).bind fun r4 =>
  some (r4.1, r4.2)) (fun k2 =>
  jn (fun (j5 : Mem) =>
  (m_errs j5 (nI 1)).bind fun r8 =>
  some (r8.1, r8.2)) (fun k6 =>
  jn (fun (j9 : Mem) =>
  (m_errs j9 (nI 3)).bind fun r12 =>
  some (r12.1, r12.2)) (fun k10 =>
  lp (fun again14 (j13 : Int32 × Mem) =>
  (m_isLineWord j13.2).bind fun r16 =>
  if (bI r16) = 0 then
  k2 (j13.1, j13.2)
  else
  if j13.1 = (nI 16) then
  k10 j13.2
  else
  nm ((nI 32) + j13.1) fun v17 =>
  (wr j13.2 18 48 v17 (j13.2 15 0)).bind fun μ18 =>
  (m_reads μ18).bind fun r19 =>
  (wr r19 19 48 v17 (r19 25 0)).bind fun μ20 =>
  (m_readSum μ20).bind fun r21 =>
  if r21.1 = (-1 : Int32) then
  some ((-1 : Int32), r21.2)
  else
  (wr r21.2 20 48 v17 (r21.2 25 0)).bind fun μ22 =>
  (m_isWord μ22 (nI 3)).bind fun r23 =>
  jn (fun (j24 : Mem) =>
  (wr j24 21 48 v17 (j24 25 0)).bind fun μ27 =>
  (m_isSign μ27 (nI 59)).bind fun r28 =>
  if (bI r28) = 0 then
  k6 μ27
  else
  (m_reads μ27).bind fun r29 =>
  again14 ((j13.1 + (nI 1)), r29)) (fun k25 =>
  if (bI r23) = 0 then
  k25 μ22
  else
  (m_reads μ22).bind fun r30 =>
  (m_readAny r30).bind fun r31 =>
  if r31.1 = (-1 : Int32) then
  some ((-1 : Int32), r31.2)
  else
  k25 r31.2)) fuel ((nI 0), μ))))
theorem wd_readLaw : yX4_readLaw.cls = RX4 ∧ yX4_readLaw.cls ≠ "java/lang/invoke/MethodHandle" ∧ yX4_readLaw.cls ≠ "java/lang/invoke/VarHandle" ∧ (parseMethodDescriptor yX4_readLaw.desc).map (fun d => d.parameters.length) = some 0 := by decide +kernel
set_option maxRecDepth 100000 in
theorem ct_readLaw (μ : Mem) : CtM yX4_readLaw cX4_readLaw 3 (some .int) 8 172 [] μ (fun r => (some (.int r.1), r.2)) (m_readLaw μ) := by
  refine CtM.of (by decide) rfl (fun _ => Nat.le_of_ble_eq_true rfl) ?_
  intro l D cl ci cA am p e s m args below meth c hcl K hr hlk hK
  refine g_sub (ls' := [(0, .ref am)]) [0] rfl ?_
  unfold m_readLaw
  refine g_iconst K (nI 0) ic_0 1 dX4_readLaw_0 rfl ?_
  refine g_istoren K [(0, .ref am), (1, .int (nI 0))] [1, 0] rfl (by decide) rfl 2 dX4_readLaw_1 rfl ?_
  refine g_jn (head := 128) (L := fun j1 => [(0, .ref am), (1, .int j1.1)]) (sf := fun j1 => []) (mf := fun j1 => j1.2) (fun j1 => ?_) (fun k2 h3 => ?_)
  · try dsimp only
    refine g_aloadn K 0 rfl rfl 129 dX4_readLaw_128 rfl ?_
    refine gm_get K hK hcl 14 132 (by decide) q1499 rfl dX4_readLaw_129 rfl ?_
    refine g_if_ne K 135 139 dX4_readLaw_132 rfl (by decide) (fun _ => ?_) (fun _ => ?_)
    · refine g_iloadn K 1 rfl rfl 136 dX4_readLaw_135 rfl ?_
      refine g_goto K 144 dX4_readLaw_136 (by decide) ?_
      exact gm_iret K hK hcl hr hlk dX4_readLaw_144 rfl
    · refine g_aloadn K 0 rfl rfl 140 dX4_readLaw_139 rfl ?_
      refine g_iconst K (nI 1) ic_1 141 dX4_readLaw_140 rfl ?_
      refine gm_call K hK hcl 144 (ct_errs j1.2 (nI 1)) (lw_V q1799 q1801 qs70 q158 q1802) wd_errs (by decide) rfl (Nat.le_of_ble_eq_true rfl) dX4_readLaw_141 rfl (fun r4 _ => ?_)
      exact gm_iret K hK hcl hr hlk dX4_readLaw_144 rfl
  · refine g_jn (head := 111) (L := fun j5 => [(0, .ref am)]) (sf := fun j5 => []) (mf := fun j5 => j5) (fun j5 => ?_) (fun k6 h7 => ?_)
    · try dsimp only
      refine g_aloadn K 0 rfl rfl 112 dX4_readLaw_111 rfl ?_
      refine g_iconst K (nI 1) ic_1 113 dX4_readLaw_112 rfl ?_
      refine gm_call K hK hcl 116 (ct_errs j5 (nI 1)) (lw_V q1799 q1801 qs70 q158 q1802) wd_errs (by decide) rfl (Nat.le_of_ble_eq_true rfl) dX4_readLaw_113 rfl (fun r8 _ => ?_)
      exact gm_iret K hK hcl hr hlk dX4_readLaw_116 rfl
    · refine g_jn (head := 15) (L := fun j9 => [(0, .ref am)]) (sf := fun j9 => []) (mf := fun j9 => j9) (fun j9 => ?_) (fun k10 h11 => ?_)
      · try dsimp only
        refine g_aloadn K 0 rfl rfl 16 dX4_readLaw_15 rfl ?_
        refine g_iconst K (nI 3) ic_3 17 dX4_readLaw_16 rfl ?_
        refine gm_call K hK hcl 20 (ct_errs j9 (nI 3)) (lw_V q1799 q1801 qs70 q158 q1802) wd_errs (by decide) rfl (Nat.le_of_ble_eq_true rfl) dX4_readLaw_17 rfl (fun r12 _ => ?_)
        exact gm_iret K hK hcl hr hlk dX4_readLaw_20 rfl
      · refine g_lp (head := 2) (L := fun j13 => [(0, .ref am), (1, .int j13.1)]) (sf := fun j13 => []) (mf := fun j13 => j13.2) (fun again14 h15 j13 => ?_) fuel ((nI 0), μ)
        try dsimp only
        refine g_aloadn K 0 rfl rfl 3 dX4_readLaw_2 rfl ?_
        refine gm_call K hK hcl 6 (ct_isLineWord j13.2) (lw_V q1843 q1845 qs81 q158 q1846) wd_isLineWord (by decide) rfl (Nat.le_of_ble_eq_true rfl) dX4_readLaw_3 rfl (fun r16 _ => ?_)
        refine g_if_eq K 9 128 dX4_readLaw_6 rfl (by decide) (fun _ => ?_) (fun _ => ?_)
        · exact h3 (j13.1, j13.2)
        · refine g_iloadn K 1 rfl rfl 10 dX4_readLaw_9 rfl ?_
          refine g_bipush K (nI 16) bp_16 12 dX4_readLaw_10 rfl ?_
          refine g_icmp_ne K 15 21 dX4_readLaw_12 rfl (by decide) (fun _ => ?_) (fun _ => ?_)
          · refine g_sub (ls' := [(0, .ref am)]) [0] rfl ?_
            exact h11 j13.2
          · refine g_bipush K (nI 32) bp_32 23 dX4_readLaw_21 rfl ?_
            refine g_iloadn K 1 rfl rfl 24 dX4_readLaw_23 rfl ?_
            refine g_iadd K 25 dX4_readLaw_24 rfl ?_
            refine g_nm (fun v17 _ => ?_)
            refine g_istoren K [(0, .ref am), (1, .int j13.1), (2, .int v17)] [1, 2, 0] rfl (by decide) rfl 26 dX4_readLaw_25 rfl ?_
            refine g_aloadn K 0 rfl rfl 27 dX4_readLaw_26 rfl ?_
            refine gm_get K hK hcl 18 30 (by decide) q1503 rfl dX4_readLaw_27 rfl ?_
            refine g_iloadn K 2 rfl rfl 31 dX4_readLaw_30 rfl ?_
            refine g_aloadn K 0 rfl rfl 32 dX4_readLaw_31 rfl ?_
            refine gm_get K hK hcl 15 35 (by decide) q1500 rfl dX4_readLaw_32 rfl ?_
            refine gm_ast K hK hcl 18 10 48 36 rfl (fun _ => rfl) dX4_readLaw_35 rfl (fun μ18 _ => ?_)
            refine g_aloadn K 0 rfl rfl 37 dX4_readLaw_36 rfl ?_
            refine gm_call K hK hcl 40 (ct_reads μ18) (lw_V q1767 q1769 qs62 q158 q1770) wd_reads (by decide) rfl (Nat.le_of_ble_eq_true rfl) dX4_readLaw_37 rfl (fun r19 _ => ?_)
            refine g_aloadn K 0 rfl rfl 41 dX4_readLaw_40 rfl ?_
            refine gm_get K hK hcl 19 44 (by decide) q1504 rfl dX4_readLaw_41 rfl ?_
            refine g_iloadn K 2 rfl rfl 45 dX4_readLaw_44 rfl ?_
            refine g_aloadn K 0 rfl rfl 46 dX4_readLaw_45 rfl ?_
            refine gm_get K hK hcl 25 49 (by decide) q1510 rfl dX4_readLaw_46 rfl ?_
            refine gm_ast K hK hcl 19 11 48 50 rfl (fun _ => rfl) dX4_readLaw_49 rfl (fun μ20 _ => ?_)
            refine g_aloadn K 0 rfl rfl 51 dX4_readLaw_50 rfl ?_
            refine gm_call K hK hcl 54 (ct_readSum μ20) (lw_V q1847 q1849 qs82 q158 q1850) wd_readSum (by decide) rfl (Nat.le_of_ble_eq_true rfl) dX4_readLaw_51 rfl (fun r21 _ => ?_)
            refine g_iconst K (-1 : Int32) ic_m1 55 dX4_readLaw_54 rfl ?_
            refine g_icmp_ne K 58 60 dX4_readLaw_55 rfl (by decide) (fun _ => ?_) (fun _ => ?_)
            · refine g_iconst K (-1 : Int32) ic_m1 59 dX4_readLaw_58 rfl ?_
              exact gm_iret K hK hcl hr hlk dX4_readLaw_59 rfl
            · refine g_aloadn K 0 rfl rfl 61 dX4_readLaw_60 rfl ?_
              refine gm_get K hK hcl 20 64 (by decide) q1505 rfl dX4_readLaw_61 rfl ?_
              refine g_iloadn K 2 rfl rfl 65 dX4_readLaw_64 rfl ?_
              refine g_aloadn K 0 rfl rfl 66 dX4_readLaw_65 rfl ?_
              refine gm_get K hK hcl 25 69 (by decide) q1510 rfl dX4_readLaw_66 rfl ?_
              refine gm_ast K hK hcl 20 12 48 70 rfl (fun _ => rfl) dX4_readLaw_69 rfl (fun μ22 _ => ?_)
              refine g_aloadn K 0 rfl rfl 71 dX4_readLaw_70 rfl ?_
              refine g_iconst K (nI 3) ic_3 72 dX4_readLaw_71 rfl ?_
              refine gm_call K hK hcl 75 (ct_isWord μ22 (nI 3)) (lw_V q1795 q1797 qs69 q158 q1798) wd_isWord (by decide) rfl (Nat.le_of_ble_eq_true rfl) dX4_readLaw_72 rfl (fun r23 _ => ?_)
              refine g_jn (head := 92) (L := fun j24 => [(0, .ref am), (1, .int j13.1), (2, .int v17)]) (sf := fun j24 => []) (mf := fun j24 => j24) (fun j24 => ?_) (fun k25 h26 => ?_)
              · try dsimp only
                refine g_aloadn K 0 rfl rfl 93 dX4_readLaw_92 rfl ?_
                refine gm_get K hK hcl 21 96 (by decide) q1506 rfl dX4_readLaw_93 rfl ?_
                refine g_iloadn K 2 rfl rfl 97 dX4_readLaw_96 rfl ?_
                refine g_aloadn K 0 rfl rfl 98 dX4_readLaw_97 rfl ?_
                refine gm_get K hK hcl 25 101 (by decide) q1510 rfl dX4_readLaw_98 rfl ?_
                refine gm_ast K hK hcl 21 13 48 102 rfl (fun _ => rfl) dX4_readLaw_101 rfl (fun μ27 _ => ?_)
                refine g_aloadn K 0 rfl rfl 103 dX4_readLaw_102 rfl ?_
                refine g_bipush K (nI 59) bp_59 105 dX4_readLaw_103 rfl ?_
                refine gm_call K hK hcl 108 (ct_isSign μ27 (nI 59)) (lw_V q1819 q1821 qs75 q158 q1822) wd_isSign (by decide) rfl (Nat.le_of_ble_eq_true rfl) dX4_readLaw_105 rfl (fun r28 _ => ?_)
                refine g_if_ne K 111 117 dX4_readLaw_108 rfl (by decide) (fun _ => ?_) (fun _ => ?_)
                · refine g_sub (ls' := [(0, .ref am)]) [0] rfl ?_
                  exact h7 μ27
                · refine g_aloadn K 0 rfl rfl 118 dX4_readLaw_117 rfl ?_
                  refine gm_call K hK hcl 121 (ct_reads μ27) (lw_V q1767 q1769 qs62 q158 q1770) wd_reads (by decide) rfl (Nat.le_of_ble_eq_true rfl) dX4_readLaw_118 rfl (fun r29 _ => ?_)
                  refine g_iloadn K 1 rfl rfl 122 dX4_readLaw_121 rfl ?_
                  refine g_iconst K (nI 1) ic_1 123 dX4_readLaw_122 rfl ?_
                  refine g_iadd K 124 dX4_readLaw_123 rfl ?_
                  refine g_istoren K [(0, .ref am), (1, .int (j13.1 + (nI 1)))] [1, 0] rfl (by decide) rfl 125 dX4_readLaw_124 rfl ?_
                  refine g_goto K 2 dX4_readLaw_125 (by decide) ?_
                  exact h15 ((j13.1 + (nI 1)), r29)
              · refine g_if_eq K 78 92 dX4_readLaw_75 rfl (by decide) (fun _ => ?_) (fun _ => ?_)
                · exact h26 μ22
                · refine g_aloadn K 0 rfl rfl 79 dX4_readLaw_78 rfl ?_
                  refine gm_call K hK hcl 82 (ct_reads μ22) (lw_V q1767 q1769 qs62 q158 q1770) wd_reads (by decide) rfl (Nat.le_of_ble_eq_true rfl) dX4_readLaw_79 rfl (fun r30 _ => ?_)
                  refine g_aloadn K 0 rfl rfl 83 dX4_readLaw_82 rfl ?_
                  refine gm_call K hK hcl 86 (ct_readAny r30) (lw_V q1867 q1869 qs87 q158 q1870) wd_readAny (by decide) rfl (Nat.le_of_ble_eq_true rfl) dX4_readLaw_83 rfl (fun r31 _ => ?_)
                  refine g_iconst K (-1 : Int32) ic_m1 87 dX4_readLaw_86 rfl ?_
                  refine g_icmp_ne K 90 92 dX4_readLaw_87 rfl (by decide) (fun _ => ?_) (fun _ => ?_)
                  · refine g_iconst K (-1 : Int32) ic_m1 91 dX4_readLaw_90 rfl ?_
                    exact gm_iret K hK hcl hr hlk dX4_readLaw_91 rfl
                  · exact h26 r31.2
/-- readsText(I)I -/
def m_readsText (μ : Mem) (x1 : Int32) : Option (Int32 × Mem) :=
  nm (up2 μ 24 0 (nI 0)) fun μ1 =>
  (m_reads μ1).bind fun r2 =>
  if x1 = (nI 1) then
  (m_readSky r2).bind fun r6 =>
  some (r6.1, r6.2)
  else
  if x1 = (nI 2) then
  (m_readOffice r2).bind fun r5 =>
  some (r5.1, r5.2)
  else
  if x1 = (nI 3) then
  (m_readNexts r2).bind fun r4 =>
  some (r4.1, r4.2)
  else
  (m_readLaw r2).bind fun r3 =>
  some (r3.1, r3.2)
theorem wd_readsText : yX4_readsText.cls = RX4 ∧ yX4_readsText.cls ≠ "java/lang/invoke/MethodHandle" ∧ yX4_readsText.cls ≠ "java/lang/invoke/VarHandle" ∧ (parseMethodDescriptor yX4_readsText.desc).map (fun d => d.parameters.length) = some 1 := by decide +kernel
set_option maxRecDepth 100000 in
theorem ct_readsText (μ : Mem) (x1 : Int32) : CtM yX4_readsText cX4_readsText 2 (some .int) 9 194 [.int x1] μ (fun r => (some (.int r.1), r.2)) (m_readsText μ x1) := by
  refine CtM.of (by decide) rfl (fun _ => Nat.le_of_ble_eq_true rfl) ?_
  intro l D cl ci cA am p e s m args below meth c hcl K hr hlk hK
  refine g_sub (ls' := [(0, .ref am), (1, .int x1)]) [0, 1] rfl ?_
  unfold m_readsText
  refine g_aloadn K 0 rfl rfl 1 dX4_readsText_0 rfl ?_
  refine g_iconst K (nI 0) ic_0 2 dX4_readsText_1 rfl ?_
  refine gm_put K hK hcl 24 (ty := .int) 5 (by decide) q1509 rfl (by decide +kernel) rfl rfl rfl dX4_readsText_2 rfl (fun μ1 _ => ?_)
  refine g_aloadn K 0 rfl rfl 6 dX4_readsText_5 rfl ?_
  refine gm_call K hK hcl 9 (ct_reads μ1) (lw_V q1767 q1769 qs62 q158 q1770) wd_reads (by decide) rfl (Nat.le_of_ble_eq_true rfl) dX4_readsText_6 rfl (fun r2 _ => ?_)
  refine g_iloadn K 1 rfl rfl 10 dX4_readsText_9 rfl ?_
  refine g_iconst K (nI 1) ic_1 11 dX4_readsText_10 rfl ?_
  refine g_icmp_ne K 14 19 dX4_readsText_11 rfl (by decide) (fun _ => ?_) (fun _ => ?_)
  · refine g_aloadn K 0 rfl rfl 15 dX4_readsText_14 rfl ?_
    refine gm_call K hK hcl 18 (ct_readSky r2) (lw_V q1791 q1793 qs68 q158 q1794) wd_readSky (by decide) rfl (Nat.le_of_ble_eq_true rfl) dX4_readsText_15 rfl (fun r6 _ => ?_)
    exact gm_iret K hK hcl hr hlk dX4_readsText_18 rfl
  · refine g_iloadn K 1 rfl rfl 20 dX4_readsText_19 rfl ?_
    refine g_iconst K (nI 2) ic_2 21 dX4_readsText_20 rfl ?_
    refine g_icmp_ne K 24 29 dX4_readsText_21 rfl (by decide) (fun _ => ?_) (fun _ => ?_)
    · refine g_aloadn K 0 rfl rfl 25 dX4_readsText_24 rfl ?_
      refine gm_call K hK hcl 28 (ct_readOffice r2) (lw_V q1823 q1825 qs76 q158 q1826) wd_readOffice (by decide) rfl (Nat.le_of_ble_eq_true rfl) dX4_readsText_25 rfl (fun r5 _ => ?_)
      exact gm_iret K hK hcl hr hlk dX4_readsText_28 rfl
    · refine g_iloadn K 1 rfl rfl 30 dX4_readsText_29 rfl ?_
      refine g_iconst K (nI 3) ic_3 31 dX4_readsText_30 rfl ?_
      refine g_icmp_ne K 34 41 dX4_readsText_31 rfl (by decide) (fun _ => ?_) (fun _ => ?_)
      · refine g_aloadn K 0 rfl rfl 35 dX4_readsText_34 rfl ?_
        refine gm_call K hK hcl 38 (ct_readNexts r2) (lw_V q1831 q1833 qs78 q158 q1834) wd_readNexts (by decide) rfl (Nat.le_of_ble_eq_true rfl) dX4_readsText_35 rfl (fun r4 _ => ?_)
        refine g_goto K 45 dX4_readsText_38 (by decide) ?_
        exact gm_iret K hK hcl hr hlk dX4_readsText_45 rfl
      · refine g_aloadn K 0 rfl rfl 42 dX4_readsText_41 rfl ?_
        refine gm_call K hK hcl 45 (ct_readLaw r2) (lw_V q1839 q1841 qs80 q158 q1842) wd_readLaw (by decide) rfl (Nat.le_of_ble_eq_true rfl) dX4_readsText_42 rfl (fun r3 _ => ?_)
        exact gm_iret K hK hcl hr hlk dX4_readsText_45 rfl
/-- takesLaw(I)V -/
def m_takesLaw (μ : Mem) (x1 : Int32) : Option (Mem) :=
  jn (fun (j1 : Mem) =>
  jn (fun (j4 : Mem) =>
  (wr j4 17 2 (j4 24 0) x1).bind fun μ7 =>
  some μ7) (fun k5 =>
  lp (fun again9 (j8 : Int32 × Mem) =>
  if (j8.2 25 0) ≤ j8.1 then
  k5 j8.2
  else
  (rd j8.2 22 1200 ((nI 800) + j8.1)).bind fun v11 =>
  (wr j8.2 22 1200 (((nI 400) * (j8.2 24 0)) + j8.1) v11).bind fun μ12 =>
  (rd μ12 23 1200 ((nI 800) + j8.1)).bind fun v13 =>
  (wr μ12 23 1200 (((nI 400) * (μ12 24 0)) + j8.1) v13).bind fun μ14 =>
  again9 ((j8.1 + (nI 1)), μ14)) fuel ((nI 0), j1))) (fun k2 =>
  lp (fun again16 (j15 : Int32 × Mem) =>
  if x1 ≤ j15.1 then
  k2 j15.2
  else
  (rd j15.2 18 48 ((nI 32) + j15.1)).bind fun v18 =>
  (wr j15.2 18 48 (((nI 16) * (j15.2 24 0)) + j15.1) v18).bind fun μ19 =>
  (rd μ19 19 48 ((nI 32) + j15.1)).bind fun v20 =>
  (wr μ19 19 48 (((nI 16) * (μ19 24 0)) + j15.1) v20).bind fun μ21 =>
  (rd μ21 20 48 ((nI 32) + j15.1)).bind fun v22 =>
  (wr μ21 20 48 (((nI 16) * (μ21 24 0)) + j15.1) v22).bind fun μ23 =>
  (rd μ23 21 48 ((nI 32) + j15.1)).bind fun v24 =>
  (wr μ23 21 48 (((nI 16) * (μ23 24 0)) + j15.1) v24).bind fun μ25 =>
  again16 ((j15.1 + (nI 1)), μ25)) fuel ((nI 0), μ))
theorem wd_takesLaw : yX4_takesLaw.cls = RX4 ∧ yX4_takesLaw.cls ≠ "java/lang/invoke/MethodHandle" ∧ yX4_takesLaw.cls ≠ "java/lang/invoke/VarHandle" ∧ (parseMethodDescriptor yX4_takesLaw.desc).map (fun d => d.parameters.length) = some 1 := by decide +kernel
set_option maxRecDepth 100000 in
theorem ct_takesLaw (μ : Mem) (x1 : Int32) : CtM yX4_takesLaw cX4_takesLaw 3 none 0 0 [.int x1] μ (fun r => (none, r)) (m_takesLaw μ x1) := by
  refine CtM.of (by decide) rfl (fun _ => Nat.le_of_ble_eq_true rfl) ?_
  intro l D cl ci cA am p e s m args below meth c hcl K hr hlk hK
  refine g_sub (ls' := [(0, .ref am), (1, .int x1)]) [0, 1] rfl ?_
  unfold m_takesLaw
  refine g_iconst K (nI 0) ic_0 1 dX4_takesLaw_0 rfl ?_
  refine g_istoren K [(0, .ref am), (1, .int x1), (2, .int (nI 0))] [1, 2, 0] rfl (by decide) rfl 2 dX4_takesLaw_1 rfl ?_
  refine g_jn (head := 105) (L := fun j1 => [(0, .ref am), (1, .int x1)]) (sf := fun j1 => []) (mf := fun j1 => j1) (fun j1 => ?_) (fun k2 h3 => ?_)
  · try dsimp only
    refine g_iconst K (nI 0) ic_0 106 dX4_takesLaw_105 rfl ?_
    refine g_istoren K [(0, .ref am), (1, .int x1), (2, .int (nI 0))] [1, 2, 0] rfl (by decide) rfl 107 dX4_takesLaw_106 rfl ?_
    refine g_jn (head := 171) (L := fun j4 => [(0, .ref am), (1, .int x1)]) (sf := fun j4 => []) (mf := fun j4 => j4) (fun j4 => ?_) (fun k5 h6 => ?_)
    · try dsimp only
      refine g_aloadn K 0 rfl rfl 172 dX4_takesLaw_171 rfl ?_
      refine gm_get K hK hcl 17 175 (by decide) q1502 rfl dX4_takesLaw_172 rfl ?_
      refine g_aloadn K 0 rfl rfl 176 dX4_takesLaw_175 rfl ?_
      refine gm_get K hK hcl 24 179 (by decide) q1509 rfl dX4_takesLaw_176 rfl ?_
      refine g_iloadn K 1 rfl rfl 180 dX4_takesLaw_179 rfl ?_
      refine gm_ast K hK hcl 17 9 2 181 rfl (fun _ => rfl) dX4_takesLaw_180 rfl (fun μ7 _ => ?_)
      exact gm_vret K hK hcl hr hlk dX4_takesLaw_181 rfl
    · refine g_lp (head := 107) (L := fun j8 => [(0, .ref am), (1, .int x1), (2, .int j8.1)]) (sf := fun j8 => []) (mf := fun j8 => j8.2) (fun again9 h10 j8 => ?_) fuel ((nI 0), j1)
      try dsimp only
      refine g_iloadn K 2 rfl rfl 108 dX4_takesLaw_107 rfl ?_
      refine g_aloadn K 0 rfl rfl 109 dX4_takesLaw_108 rfl ?_
      refine gm_get K hK hcl 25 112 (by decide) q1510 rfl dX4_takesLaw_109 rfl ?_
      refine g_icmp_ge K 115 171 dX4_takesLaw_112 rfl (by decide) (fun _ => ?_) (fun _ => ?_)
      · refine g_sub (ls' := [(0, .ref am), (1, .int x1)]) [0, 1] rfl ?_
        exact h6 j8.2
      · refine g_aloadn K 0 rfl rfl 116 dX4_takesLaw_115 rfl ?_
        refine gm_get K hK hcl 22 119 (by decide) q1507 rfl dX4_takesLaw_116 rfl ?_
        refine g_sipush K (nI 400) sp_400 122 dX4_takesLaw_119 rfl ?_
        refine g_aloadn K 0 rfl rfl 123 dX4_takesLaw_122 rfl ?_
        refine gm_get K hK hcl 24 126 (by decide) q1509 rfl dX4_takesLaw_123 rfl ?_
        refine g_imul K 127 dX4_takesLaw_126 rfl ?_
        refine g_iloadn K 2 rfl rfl 128 dX4_takesLaw_127 rfl ?_
        refine g_iadd K 129 dX4_takesLaw_128 rfl ?_
        refine g_aloadn K 0 rfl rfl 130 dX4_takesLaw_129 rfl ?_
        refine gm_get K hK hcl 22 133 (by decide) q1507 rfl dX4_takesLaw_130 rfl ?_
        refine g_sipush K (nI 800) sp_800 136 dX4_takesLaw_133 rfl ?_
        refine g_iloadn K 2 rfl rfl 137 dX4_takesLaw_136 rfl ?_
        refine g_iadd K 138 dX4_takesLaw_137 rfl ?_
        refine gm_ald K hK hcl 22 14 1200 139 rfl dX4_takesLaw_138 rfl (fun v11 _ => ?_)
        refine gm_ast K hK hcl 22 14 1200 140 rfl (fun _ => rfl) dX4_takesLaw_139 rfl (fun μ12 _ => ?_)
        refine g_aloadn K 0 rfl rfl 141 dX4_takesLaw_140 rfl ?_
        refine gm_get K hK hcl 23 144 (by decide) q1508 rfl dX4_takesLaw_141 rfl ?_
        refine g_sipush K (nI 400) sp_400 147 dX4_takesLaw_144 rfl ?_
        refine g_aloadn K 0 rfl rfl 148 dX4_takesLaw_147 rfl ?_
        refine gm_get K hK hcl 24 151 (by decide) q1509 rfl dX4_takesLaw_148 rfl ?_
        refine g_imul K 152 dX4_takesLaw_151 rfl ?_
        refine g_iloadn K 2 rfl rfl 153 dX4_takesLaw_152 rfl ?_
        refine g_iadd K 154 dX4_takesLaw_153 rfl ?_
        refine g_aloadn K 0 rfl rfl 155 dX4_takesLaw_154 rfl ?_
        refine gm_get K hK hcl 23 158 (by decide) q1508 rfl dX4_takesLaw_155 rfl ?_
        refine g_sipush K (nI 800) sp_800 161 dX4_takesLaw_158 rfl ?_
        refine g_iloadn K 2 rfl rfl 162 dX4_takesLaw_161 rfl ?_
        refine g_iadd K 163 dX4_takesLaw_162 rfl ?_
        refine gm_ald K hK hcl 23 15 1200 164 rfl dX4_takesLaw_163 rfl (fun v13 _ => ?_)
        refine gm_ast K hK hcl 23 15 1200 165 rfl (fun _ => rfl) dX4_takesLaw_164 rfl (fun μ14 _ => ?_)
        refine g_iinc K (j8.1 + (nI 1)) 2 [(0, .ref am), (1, .int x1), (2, .int (j8.1 + (nI 1)))] [1, 2, 0] rfl (by rw [ic_1]) (by decide) rfl 168 dX4_takesLaw_165 rfl ?_
        refine g_goto K 107 dX4_takesLaw_168 (by decide) ?_
        exact h10 ((j8.1 + (nI 1)), μ14)
  · refine g_lp (head := 2) (L := fun j15 => [(0, .ref am), (1, .int x1), (2, .int j15.1)]) (sf := fun j15 => []) (mf := fun j15 => j15.2) (fun again16 h17 j15 => ?_) fuel ((nI 0), μ)
    try dsimp only
    refine g_iloadn K 2 rfl rfl 3 dX4_takesLaw_2 rfl ?_
    refine g_iloadn K 1 rfl rfl 4 dX4_takesLaw_3 rfl ?_
    refine g_icmp_ge K 7 105 dX4_takesLaw_4 rfl (by decide) (fun _ => ?_) (fun _ => ?_)
    · refine g_sub (ls' := [(0, .ref am), (1, .int x1)]) [0, 1] rfl ?_
      exact h3 j15.2
    · refine g_aloadn K 0 rfl rfl 8 dX4_takesLaw_7 rfl ?_
      refine gm_get K hK hcl 18 11 (by decide) q1503 rfl dX4_takesLaw_8 rfl ?_
      refine g_bipush K (nI 16) bp_16 13 dX4_takesLaw_11 rfl ?_
      refine g_aloadn K 0 rfl rfl 14 dX4_takesLaw_13 rfl ?_
      refine gm_get K hK hcl 24 17 (by decide) q1509 rfl dX4_takesLaw_14 rfl ?_
      refine g_imul K 18 dX4_takesLaw_17 rfl ?_
      refine g_iloadn K 2 rfl rfl 19 dX4_takesLaw_18 rfl ?_
      refine g_iadd K 20 dX4_takesLaw_19 rfl ?_
      refine g_aloadn K 0 rfl rfl 21 dX4_takesLaw_20 rfl ?_
      refine gm_get K hK hcl 18 24 (by decide) q1503 rfl dX4_takesLaw_21 rfl ?_
      refine g_bipush K (nI 32) bp_32 26 dX4_takesLaw_24 rfl ?_
      refine g_iloadn K 2 rfl rfl 27 dX4_takesLaw_26 rfl ?_
      refine g_iadd K 28 dX4_takesLaw_27 rfl ?_
      refine gm_ald K hK hcl 18 10 48 29 rfl dX4_takesLaw_28 rfl (fun v18 _ => ?_)
      refine gm_ast K hK hcl 18 10 48 30 rfl (fun _ => rfl) dX4_takesLaw_29 rfl (fun μ19 _ => ?_)
      refine g_aloadn K 0 rfl rfl 31 dX4_takesLaw_30 rfl ?_
      refine gm_get K hK hcl 19 34 (by decide) q1504 rfl dX4_takesLaw_31 rfl ?_
      refine g_bipush K (nI 16) bp_16 36 dX4_takesLaw_34 rfl ?_
      refine g_aloadn K 0 rfl rfl 37 dX4_takesLaw_36 rfl ?_
      refine gm_get K hK hcl 24 40 (by decide) q1509 rfl dX4_takesLaw_37 rfl ?_
      refine g_imul K 41 dX4_takesLaw_40 rfl ?_
      refine g_iloadn K 2 rfl rfl 42 dX4_takesLaw_41 rfl ?_
      refine g_iadd K 43 dX4_takesLaw_42 rfl ?_
      refine g_aloadn K 0 rfl rfl 44 dX4_takesLaw_43 rfl ?_
      refine gm_get K hK hcl 19 47 (by decide) q1504 rfl dX4_takesLaw_44 rfl ?_
      refine g_bipush K (nI 32) bp_32 49 dX4_takesLaw_47 rfl ?_
      refine g_iloadn K 2 rfl rfl 50 dX4_takesLaw_49 rfl ?_
      refine g_iadd K 51 dX4_takesLaw_50 rfl ?_
      refine gm_ald K hK hcl 19 11 48 52 rfl dX4_takesLaw_51 rfl (fun v20 _ => ?_)
      refine gm_ast K hK hcl 19 11 48 53 rfl (fun _ => rfl) dX4_takesLaw_52 rfl (fun μ21 _ => ?_)
      refine g_aloadn K 0 rfl rfl 54 dX4_takesLaw_53 rfl ?_
      refine gm_get K hK hcl 20 57 (by decide) q1505 rfl dX4_takesLaw_54 rfl ?_
      refine g_bipush K (nI 16) bp_16 59 dX4_takesLaw_57 rfl ?_
      refine g_aloadn K 0 rfl rfl 60 dX4_takesLaw_59 rfl ?_
      refine gm_get K hK hcl 24 63 (by decide) q1509 rfl dX4_takesLaw_60 rfl ?_
      refine g_imul K 64 dX4_takesLaw_63 rfl ?_
      refine g_iloadn K 2 rfl rfl 65 dX4_takesLaw_64 rfl ?_
      refine g_iadd K 66 dX4_takesLaw_65 rfl ?_
      refine g_aloadn K 0 rfl rfl 67 dX4_takesLaw_66 rfl ?_
      refine gm_get K hK hcl 20 70 (by decide) q1505 rfl dX4_takesLaw_67 rfl ?_
      refine g_bipush K (nI 32) bp_32 72 dX4_takesLaw_70 rfl ?_
      refine g_iloadn K 2 rfl rfl 73 dX4_takesLaw_72 rfl ?_
      refine g_iadd K 74 dX4_takesLaw_73 rfl ?_
      refine gm_ald K hK hcl 20 12 48 75 rfl dX4_takesLaw_74 rfl (fun v22 _ => ?_)
      refine gm_ast K hK hcl 20 12 48 76 rfl (fun _ => rfl) dX4_takesLaw_75 rfl (fun μ23 _ => ?_)
      refine g_aloadn K 0 rfl rfl 77 dX4_takesLaw_76 rfl ?_
      refine gm_get K hK hcl 21 80 (by decide) q1506 rfl dX4_takesLaw_77 rfl ?_
      refine g_bipush K (nI 16) bp_16 82 dX4_takesLaw_80 rfl ?_
      refine g_aloadn K 0 rfl rfl 83 dX4_takesLaw_82 rfl ?_
      refine gm_get K hK hcl 24 86 (by decide) q1509 rfl dX4_takesLaw_83 rfl ?_
      refine g_imul K 87 dX4_takesLaw_86 rfl ?_
      refine g_iloadn K 2 rfl rfl 88 dX4_takesLaw_87 rfl ?_
      refine g_iadd K 89 dX4_takesLaw_88 rfl ?_
      refine g_aloadn K 0 rfl rfl 90 dX4_takesLaw_89 rfl ?_
      refine gm_get K hK hcl 21 93 (by decide) q1506 rfl dX4_takesLaw_90 rfl ?_
      refine g_bipush K (nI 32) bp_32 95 dX4_takesLaw_93 rfl ?_
      refine g_iloadn K 2 rfl rfl 96 dX4_takesLaw_95 rfl ?_
      refine g_iadd K 97 dX4_takesLaw_96 rfl ?_
      refine gm_ald K hK hcl 21 13 48 98 rfl dX4_takesLaw_97 rfl (fun v24 _ => ?_)
      refine gm_ast K hK hcl 21 13 48 99 rfl (fun _ => rfl) dX4_takesLaw_98 rfl (fun μ25 _ => ?_)
      refine g_iinc K (j15.1 + (nI 1)) 2 [(0, .ref am), (1, .int x1), (2, .int (j15.1 + (nI 1)))] [1, 2, 0] rfl (by rw [ic_1]) (by decide) rfl 102 dX4_takesLaw_99 rfl ?_
      refine g_goto K 2 dX4_takesLaw_102 (by decide) ?_
      exact h17 ((j15.1 + (nI 1)), μ25)
/-- takesOther(II)V -/
def m_takesOther (μ : Mem) (x1 : Int32) (x2 : Int32) : Option (Mem) :=
  if x1 = (nI 3) then
  jn (fun (j23 : Mem) =>
  nm (up2 j23 37 0 x2) fun μ26 =>
  some μ26) (fun k24 =>
  lp (fun again28 (j27 : Int32 × Mem) =>
  if (nI 12) ≤ j27.1 then
  k24 j27.2
  else
  (rd j27.2 38 24 ((nI 12) + j27.1)).bind fun v30 =>
  (wr j27.2 38 24 j27.1 v30).bind fun μ31 =>
  again28 ((j27.1 + (nI 1)), μ31)) fuel ((nI 0), μ))
  else
  jn (fun (j1 : Mem) =>
  nm (up2 j1 3 0 (nI 0)) fun μ4 =>
  some μ4) (fun k2 =>
  if x1 = (nI 1) then
  jn (fun (j14 : Mem) =>
  nm (up2 j14 33 0 x2) fun μ17 =>
  k2 μ17) (fun k15 =>
  lp (fun again19 (j18 : Int32 × Mem) =>
  if ((nI 3) * x2) ≤ j18.1 then
  k15 j18.2
  else
  (rd j18.2 34 96 ((nI 48) + j18.1)).bind fun v21 =>
  (wr j18.2 34 96 j18.1 v21).bind fun μ22 =>
  again19 ((j18.1 + (nI 1)), μ22)) fuel ((nI 0), μ))
  else
  jn (fun (j5 : Mem) =>
  nm (up2 j5 35 0 x2) fun μ8 =>
  k2 μ8) (fun k6 =>
  lp (fun again10 (j9 : Int32 × Mem) =>
  if ((nI 5) * x2) ≤ j9.1 then
  k6 j9.2
  else
  (rd j9.2 36 160 ((nI 80) + j9.1)).bind fun v12 =>
  (wr j9.2 36 160 j9.1 v12).bind fun μ13 =>
  again10 ((j9.1 + (nI 1)), μ13)) fuel ((nI 0), μ)))
theorem wd_takesOther : yX4_takesOther.cls = RX4 ∧ yX4_takesOther.cls ≠ "java/lang/invoke/MethodHandle" ∧ yX4_takesOther.cls ≠ "java/lang/invoke/VarHandle" ∧ (parseMethodDescriptor yX4_takesOther.desc).map (fun d => d.parameters.length) = some 2 := by decide +kernel
set_option maxRecDepth 100000 in
theorem ct_takesOther (μ : Mem) (x1 : Int32) (x2 : Int32) : CtM yX4_takesOther cX4_takesOther 4 none 0 0 [.int x1, .int x2] μ (fun r => (none, r)) (m_takesOther μ x1 x2) := by
  refine CtM.of (by decide) rfl (fun _ => Nat.le_of_ble_eq_true rfl) ?_
  intro l D cl ci cA am p e s m args below meth c hcl K hr hlk hK
  refine g_sub (ls' := [(0, .ref am), (1, .int x1), (2, .int x2)]) [0, 1, 2] rfl ?_
  unfold m_takesOther
  refine g_iloadn K 1 rfl rfl 1 dX4_takesOther_0 rfl ?_
  refine g_iconst K (nI 3) ic_3 2 dX4_takesOther_1 rfl ?_
  refine g_icmp_ne K 5 40 dX4_takesOther_2 rfl (by decide) (fun _ => ?_) (fun _ => ?_)
  · refine g_iconst K (nI 0) ic_0 6 dX4_takesOther_5 rfl ?_
    refine g_istoren K [(0, .ref am), (2, .int x2), (3, .int (nI 0))] [1, 3, 0] rfl (by decide) rfl 7 dX4_takesOther_6 rfl ?_
    refine g_jn (head := 34) (L := fun j23 => [(0, .ref am), (2, .int x2)]) (sf := fun j23 => []) (mf := fun j23 => j23) (fun j23 => ?_) (fun k24 h25 => ?_)
    · try dsimp only
      refine g_aloadn K 0 rfl rfl 35 dX4_takesOther_34 rfl ?_
      refine g_iloadn K 1 rfl rfl 36 dX4_takesOther_35 rfl ?_
      refine gm_put K hK hcl 37 (ty := .int) 39 (by decide) q1522 rfl (by decide +kernel) rfl rfl rfl dX4_takesOther_36 rfl (fun μ26 _ => ?_)
      exact gm_vret K hK hcl hr hlk dX4_takesOther_39 rfl
    · refine g_lp (head := 7) (L := fun j27 => [(0, .ref am), (2, .int x2), (3, .int j27.1)]) (sf := fun j27 => []) (mf := fun j27 => j27.2) (fun again28 h29 j27 => ?_) fuel ((nI 0), μ)
      try dsimp only
      refine g_iloadn K 2 rfl rfl 8 dX4_takesOther_7 rfl ?_
      refine g_bipush K (nI 12) bp_12 10 dX4_takesOther_8 rfl ?_
      refine g_icmp_ge K 13 34 dX4_takesOther_10 rfl (by decide) (fun _ => ?_) (fun _ => ?_)
      · refine g_sub (ls' := [(0, .ref am), (2, .int x2)]) [0, 1] rfl ?_
        exact h25 j27.2
      · refine g_aloadn K 0 rfl rfl 14 dX4_takesOther_13 rfl ?_
        refine gm_get K hK hcl 38 17 (by decide) q1523 rfl dX4_takesOther_14 rfl ?_
        refine g_iloadn K 2 rfl rfl 18 dX4_takesOther_17 rfl ?_
        refine g_aloadn K 0 rfl rfl 19 dX4_takesOther_18 rfl ?_
        refine gm_get K hK hcl 38 22 (by decide) q1523 rfl dX4_takesOther_19 rfl ?_
        refine g_bipush K (nI 12) bp_12 24 dX4_takesOther_22 rfl ?_
        refine g_iloadn K 2 rfl rfl 25 dX4_takesOther_24 rfl ?_
        refine g_iadd K 26 dX4_takesOther_25 rfl ?_
        refine gm_ald K hK hcl 38 19 24 27 rfl dX4_takesOther_26 rfl (fun v30 _ => ?_)
        refine gm_ast K hK hcl 38 19 24 28 rfl (fun _ => rfl) dX4_takesOther_27 rfl (fun μ31 _ => ?_)
        refine g_iinc K (j27.1 + (nI 1)) 2 [(0, .ref am), (2, .int x2), (3, .int (j27.1 + (nI 1)))] [1, 2, 0] rfl (by rw [ic_1]) (by decide) rfl 31 dX4_takesOther_28 rfl ?_
        refine g_goto K 7 dX4_takesOther_31 (by decide) ?_
        exact h29 ((j27.1 + (nI 1)), μ31)
  · refine g_iloadn K 1 rfl rfl 41 dX4_takesOther_40 rfl ?_
    refine g_iconst K (nI 1) ic_1 42 dX4_takesOther_41 rfl ?_
    refine g_jn (head := 118) (L := fun j1 => [(0, .ref am)]) (sf := fun j1 => []) (mf := fun j1 => j1) (fun j1 => ?_) (fun k2 h3 => ?_)
    · try dsimp only
      refine g_aloadn K 0 rfl rfl 119 dX4_takesOther_118 rfl ?_
      refine g_iconst K (nI 0) ic_0 120 dX4_takesOther_119 rfl ?_
      refine gm_put K hK hcl 3 (ty := .int) 123 (by decide) q1488 rfl (by decide +kernel) rfl rfl rfl dX4_takesOther_120 rfl (fun μ4 _ => ?_)
      exact gm_vret K hK hcl hr hlk dX4_takesOther_123 rfl
    · refine g_icmp_ne K 45 83 dX4_takesOther_42 rfl (by decide) (fun _ => ?_) (fun _ => ?_)
      · refine g_iconst K (nI 0) ic_0 46 dX4_takesOther_45 rfl ?_
        refine g_istoren K [(0, .ref am), (2, .int x2), (3, .int (nI 0))] [1, 3, 0] rfl (by decide) rfl 47 dX4_takesOther_46 rfl ?_
        refine g_jn (head := 75) (L := fun j14 => [(0, .ref am), (2, .int x2)]) (sf := fun j14 => []) (mf := fun j14 => j14) (fun j14 => ?_) (fun k15 h16 => ?_)
        · try dsimp only
          refine g_aloadn K 0 rfl rfl 76 dX4_takesOther_75 rfl ?_
          refine g_iloadn K 1 rfl rfl 77 dX4_takesOther_76 rfl ?_
          refine gm_put K hK hcl 33 (ty := .int) 80 (by decide) q1518 rfl (by decide +kernel) rfl rfl rfl dX4_takesOther_77 rfl (fun μ17 _ => ?_)
          refine g_goto K 118 dX4_takesOther_80 (by decide) ?_
          refine g_sub (ls' := [(0, .ref am)]) [0] rfl ?_
          exact h3 μ17
        · refine g_lp (head := 47) (L := fun j18 => [(0, .ref am), (2, .int x2), (3, .int j18.1)]) (sf := fun j18 => []) (mf := fun j18 => j18.2) (fun again19 h20 j18 => ?_) fuel ((nI 0), μ)
          try dsimp only
          refine g_iloadn K 2 rfl rfl 48 dX4_takesOther_47 rfl ?_
          refine g_iconst K (nI 3) ic_3 49 dX4_takesOther_48 rfl ?_
          refine g_iloadn K 1 rfl rfl 50 dX4_takesOther_49 rfl ?_
          refine g_imul K 51 dX4_takesOther_50 rfl ?_
          refine g_icmp_ge K 54 75 dX4_takesOther_51 rfl (by decide) (fun _ => ?_) (fun _ => ?_)
          · refine g_sub (ls' := [(0, .ref am), (2, .int x2)]) [0, 1] rfl ?_
            exact h16 j18.2
          · refine g_aloadn K 0 rfl rfl 55 dX4_takesOther_54 rfl ?_
            refine gm_get K hK hcl 34 58 (by decide) q1519 rfl dX4_takesOther_55 rfl ?_
            refine g_iloadn K 2 rfl rfl 59 dX4_takesOther_58 rfl ?_
            refine g_aloadn K 0 rfl rfl 60 dX4_takesOther_59 rfl ?_
            refine gm_get K hK hcl 34 63 (by decide) q1519 rfl dX4_takesOther_60 rfl ?_
            refine g_bipush K (nI 48) bp_48 65 dX4_takesOther_63 rfl ?_
            refine g_iloadn K 2 rfl rfl 66 dX4_takesOther_65 rfl ?_
            refine g_iadd K 67 dX4_takesOther_66 rfl ?_
            refine gm_ald K hK hcl 34 17 96 68 rfl dX4_takesOther_67 rfl (fun v21 _ => ?_)
            refine gm_ast K hK hcl 34 17 96 69 rfl (fun _ => rfl) dX4_takesOther_68 rfl (fun μ22 _ => ?_)
            refine g_iinc K (j18.1 + (nI 1)) 2 [(0, .ref am), (2, .int x2), (3, .int (j18.1 + (nI 1)))] [1, 2, 0] rfl (by rw [ic_1]) (by decide) rfl 72 dX4_takesOther_69 rfl ?_
            refine g_goto K 47 dX4_takesOther_72 (by decide) ?_
            exact h20 ((j18.1 + (nI 1)), μ22)
      · refine g_iconst K (nI 0) ic_0 84 dX4_takesOther_83 rfl ?_
        refine g_istoren K [(0, .ref am), (2, .int x2), (3, .int (nI 0))] [1, 3, 0] rfl (by decide) rfl 85 dX4_takesOther_84 rfl ?_
        refine g_jn (head := 113) (L := fun j5 => [(0, .ref am), (2, .int x2)]) (sf := fun j5 => []) (mf := fun j5 => j5) (fun j5 => ?_) (fun k6 h7 => ?_)
        · try dsimp only
          refine g_aloadn K 0 rfl rfl 114 dX4_takesOther_113 rfl ?_
          refine g_iloadn K 1 rfl rfl 115 dX4_takesOther_114 rfl ?_
          refine gm_put K hK hcl 35 (ty := .int) 118 (by decide) q1520 rfl (by decide +kernel) rfl rfl rfl dX4_takesOther_115 rfl (fun μ8 _ => ?_)
          refine g_sub (ls' := [(0, .ref am)]) [0] rfl ?_
          exact h3 μ8
        · refine g_lp (head := 85) (L := fun j9 => [(0, .ref am), (2, .int x2), (3, .int j9.1)]) (sf := fun j9 => []) (mf := fun j9 => j9.2) (fun again10 h11 j9 => ?_) fuel ((nI 0), μ)
          try dsimp only
          refine g_iloadn K 2 rfl rfl 86 dX4_takesOther_85 rfl ?_
          refine g_iconst K (nI 5) ic_5 87 dX4_takesOther_86 rfl ?_
          refine g_iloadn K 1 rfl rfl 88 dX4_takesOther_87 rfl ?_
          refine g_imul K 89 dX4_takesOther_88 rfl ?_
          refine g_icmp_ge K 92 113 dX4_takesOther_89 rfl (by decide) (fun _ => ?_) (fun _ => ?_)
          · refine g_sub (ls' := [(0, .ref am), (2, .int x2)]) [0, 1] rfl ?_
            exact h7 j9.2
          · refine g_aloadn K 0 rfl rfl 93 dX4_takesOther_92 rfl ?_
            refine gm_get K hK hcl 36 96 (by decide) q1521 rfl dX4_takesOther_93 rfl ?_
            refine g_iloadn K 2 rfl rfl 97 dX4_takesOther_96 rfl ?_
            refine g_aloadn K 0 rfl rfl 98 dX4_takesOther_97 rfl ?_
            refine gm_get K hK hcl 36 101 (by decide) q1521 rfl dX4_takesOther_98 rfl ?_
            refine g_bipush K (nI 80) bp_80 103 dX4_takesOther_101 rfl ?_
            refine g_iloadn K 2 rfl rfl 104 dX4_takesOther_103 rfl ?_
            refine g_iadd K 105 dX4_takesOther_104 rfl ?_
            refine gm_ald K hK hcl 36 18 160 106 rfl dX4_takesOther_105 rfl (fun v12 _ => ?_)
            refine gm_ast K hK hcl 36 18 160 107 rfl (fun _ => rfl) dX4_takesOther_106 rfl (fun μ13 _ => ?_)
            refine g_iinc K (j9.1 + (nI 1)) 2 [(0, .ref am), (2, .int x2), (3, .int (j9.1 + (nI 1)))] [1, 2, 0] rfl (by rw [ic_1]) (by decide) rfl 110 dX4_takesOther_107 rfl ?_
            refine g_goto K 85 dX4_takesOther_110 (by decide) ?_
            exact h11 ((j9.1 + (nI 1)), μ13)
/-- text(I)I -/
def m_text (μ : Mem) (x1 : Int32) : Option (Int32 × Mem) :=
  nm (up2 μ 0 0 (nI 0)) fun μ1 =>
  nm (up2 μ1 31 0 (nI 0)) fun μ2 =>
  nm (up2 μ2 32 0 (-1 : Int32)) fun μ3 =>
  nm (up2 μ3 12 0 (nI 0)) fun μ4 =>
  nm (up2 μ4 25 0 (nI 0)) fun μ5 =>
  nm (up2 μ5 26 0 (nI 0)) fun μ6 =>
  (m_isIn μ6 x1 (nI 0) (nI 3)).bind fun r7 =>
  jn (fun (j8 : Int32 × Mem) =>
  nm (up2 j8.2 11 0 (nI 0)) fun μ11 =>
  if j8.1 = (-1 : Int32) then
  some ((-1 : Int32), μ11)
  else
  if x1 = 0 then
  (m_takesLaw μ11 j8.1).bind fun r13 =>
  some (j8.1, r13)
  else
  (m_takesOther μ11 x1 j8.1).bind fun r12 =>
  some (j8.1, r12)) (fun k9 =>
  if (bI r7) = 0 then
  k9 ((-1 : Int32), μ6)
  else
  (m_readsText μ6 x1).bind fun r14 =>
  if r14.1 = (-1 : Int32) then
  nm (up2 r14.2 31 0 (r14.2 29 0)) fun μ15 =>
  nm (up2 μ15 32 0 (μ15 30 0)) fun μ16 =>
  k9 (r14.1, μ16)
  else
  k9 (r14.1, r14.2))
theorem wd_text : yX4_text.cls = RX4 ∧ yX4_text.cls ≠ "java/lang/invoke/MethodHandle" ∧ yX4_text.cls ≠ "java/lang/invoke/VarHandle" ∧ (parseMethodDescriptor yX4_text.desc).map (fun d => d.parameters.length) = some 1 := by decide +kernel
set_option maxRecDepth 100000 in
theorem ct_text (μ : Mem) (x1 : Int32) : CtM yX4_text cX4_text 3 (some .int) 10 215 [.int x1] μ (fun r => (some (.int r.1), r.2)) (m_text μ x1) := by
  refine CtM.of (by decide) rfl (fun _ => Nat.le_of_ble_eq_true rfl) ?_
  intro l D cl ci cA am p e s m args below meth c hcl K hr hlk hK
  refine g_sub (ls' := [(0, .ref am), (1, .int x1)]) [0, 1] rfl ?_
  unfold m_text
  refine g_aloadn K 0 rfl rfl 1 dX4_text_0 rfl ?_
  refine g_iconst K (nI 0) ic_0 2 dX4_text_1 rfl ?_
  refine gm_put K hK hcl 0 (ty := .int) 5 (by decide) q1485 rfl (by decide +kernel) rfl rfl rfl dX4_text_2 rfl (fun μ1 _ => ?_)
  refine g_aloadn K 0 rfl rfl 6 dX4_text_5 rfl ?_
  refine g_iconst K (nI 0) ic_0 7 dX4_text_6 rfl ?_
  refine gm_put K hK hcl 31 (ty := .int) 10 (by decide) q1516 rfl (by decide +kernel) rfl rfl rfl dX4_text_7 rfl (fun μ2 _ => ?_)
  refine g_aloadn K 0 rfl rfl 11 dX4_text_10 rfl ?_
  refine g_iconst K (-1 : Int32) ic_m1 12 dX4_text_11 rfl ?_
  refine gm_put K hK hcl 32 (ty := .int) 15 (by decide) q1517 rfl (by decide +kernel) rfl rfl rfl dX4_text_12 rfl (fun μ3 _ => ?_)
  refine g_aloadn K 0 rfl rfl 16 dX4_text_15 rfl ?_
  refine g_iconst K (nI 0) ic_0 17 dX4_text_16 rfl ?_
  refine gm_put K hK hcl 12 (ty := .int) 20 (by decide) q1497 rfl (by decide +kernel) rfl rfl rfl dX4_text_17 rfl (fun μ4 _ => ?_)
  refine g_aloadn K 0 rfl rfl 21 dX4_text_20 rfl ?_
  refine g_iconst K (nI 0) ic_0 22 dX4_text_21 rfl ?_
  refine gm_put K hK hcl 25 (ty := .int) 25 (by decide) q1510 rfl (by decide +kernel) rfl rfl rfl dX4_text_22 rfl (fun μ5 _ => ?_)
  refine g_aloadn K 0 rfl rfl 26 dX4_text_25 rfl ?_
  refine g_iconst K (nI 0) ic_0 27 dX4_text_26 rfl ?_
  refine gm_put K hK hcl 26 (ty := .int) 30 (by decide) q1511 rfl (by decide +kernel) rfl rfl rfl dX4_text_27 rfl (fun μ6 _ => ?_)
  refine g_iconst K (-1 : Int32) ic_m1 31 dX4_text_30 rfl ?_
  refine g_istoren K [(0, .ref am), (1, .int x1), (2, .int (-1 : Int32))] [1, 2, 0] rfl (by decide) rfl 32 dX4_text_31 rfl ?_
  refine g_aloadn K 0 rfl rfl 33 dX4_text_32 rfl ?_
  refine g_iloadn K 1 rfl rfl 34 dX4_text_33 rfl ?_
  refine g_iconst K (nI 0) ic_0 35 dX4_text_34 rfl ?_
  refine g_iconst K (nI 3) ic_3 36 dX4_text_35 rfl ?_
  refine gm_call K hK hcl 39 (ct_isIn μ6 x1 (nI 0) (nI 3)) (lw_V q1723 q1725 qs55 q158 q1726) wd_isIn (by decide) rfl (Nat.le_of_ble_eq_true rfl) dX4_text_36 rfl (fun r7 _ => ?_)
  refine g_jn (head := 69) (L := fun j8 => [(0, .ref am), (1, .int x1), (2, .int j8.1)]) (sf := fun j8 => []) (mf := fun j8 => j8.2) (fun j8 => ?_) (fun k9 h10 => ?_)
  · try dsimp only
    refine g_aloadn K 0 rfl rfl 70 dX4_text_69 rfl ?_
    refine g_iconst K (nI 0) ic_0 71 dX4_text_70 rfl ?_
    refine gm_put K hK hcl 11 (ty := .int) 74 (by decide) q1496 rfl (by decide +kernel) rfl rfl rfl dX4_text_71 rfl (fun μ11 _ => ?_)
    refine g_iloadn K 2 rfl rfl 75 dX4_text_74 rfl ?_
    refine g_iconst K (-1 : Int32) ic_m1 76 dX4_text_75 rfl ?_
    refine g_icmp_ne K 79 81 dX4_text_76 rfl (by decide) (fun _ => ?_) (fun _ => ?_)
    · refine g_iconst K (-1 : Int32) ic_m1 80 dX4_text_79 rfl ?_
      exact gm_iret K hK hcl hr hlk dX4_text_80 rfl
    · refine g_iloadn K 1 rfl rfl 82 dX4_text_81 rfl ?_
      refine g_if_ne K 85 93 dX4_text_82 rfl (by decide) (fun _ => ?_) (fun _ => ?_)
      · refine g_aloadn K 0 rfl rfl 86 dX4_text_85 rfl ?_
        refine g_iloadn K 2 rfl rfl 87 dX4_text_86 rfl ?_
        refine gm_call K hK hcl 90 (ct_takesLaw μ11 j8.1) (lw_V q1883 q1885 qs91 q158 q1886) wd_takesLaw (by decide) rfl (Nat.le_of_ble_eq_true rfl) dX4_text_87 rfl (fun r13 _ => ?_)
        refine g_goto K 99 dX4_text_90 (by decide) ?_
        refine g_iloadn K 2 rfl rfl 100 dX4_text_99 rfl ?_
        exact gm_iret K hK hcl hr hlk dX4_text_100 rfl
      · refine g_aloadn K 0 rfl rfl 94 dX4_text_93 rfl ?_
        refine g_iloadn K 1 rfl rfl 95 dX4_text_94 rfl ?_
        refine g_iloadn K 2 rfl rfl 96 dX4_text_95 rfl ?_
        refine gm_call K hK hcl 99 (ct_takesOther μ11 x1 j8.1) (lw_V q1887 q1889 qs92 q158 q1890) wd_takesOther (by decide) rfl (Nat.le_of_ble_eq_true rfl) dX4_text_96 rfl (fun r12 _ => ?_)
        refine g_iloadn K 2 rfl rfl 100 dX4_text_99 rfl ?_
        exact gm_iret K hK hcl hr hlk dX4_text_100 rfl
  · refine g_if_eq K 42 69 dX4_text_39 rfl (by decide) (fun _ => ?_) (fun _ => ?_)
    · exact h10 ((-1 : Int32), μ6)
    · refine g_aloadn K 0 rfl rfl 43 dX4_text_42 rfl ?_
      refine g_iloadn K 1 rfl rfl 44 dX4_text_43 rfl ?_
      refine gm_call K hK hcl 47 (ct_readsText μ6 x1) (lw_V q1763 q1765 qs61 q158 q1766) wd_readsText (by decide) rfl (Nat.le_of_ble_eq_true rfl) dX4_text_44 rfl (fun r14 _ => ?_)
      refine g_istoren K [(0, .ref am), (1, .int x1), (2, .int r14.1)] [1, 2, 0] rfl (by decide) rfl 48 dX4_text_47 rfl ?_
      refine g_iloadn K 2 rfl rfl 49 dX4_text_48 rfl ?_
      refine g_iconst K (-1 : Int32) ic_m1 50 dX4_text_49 rfl ?_
      refine g_icmp_ne K 53 69 dX4_text_50 rfl (by decide) (fun _ => ?_) (fun _ => ?_)
      · refine g_aloadn K 0 rfl rfl 54 dX4_text_53 rfl ?_
        refine g_aloadn K 0 rfl rfl 55 dX4_text_54 rfl ?_
        refine gm_get K hK hcl 29 58 (by decide) q1514 rfl dX4_text_55 rfl ?_
        refine gm_put K hK hcl 31 (ty := .int) 61 (by decide) q1516 rfl (by decide +kernel) rfl rfl rfl dX4_text_58 rfl (fun μ15 _ => ?_)
        refine g_aloadn K 0 rfl rfl 62 dX4_text_61 rfl ?_
        refine g_aloadn K 0 rfl rfl 63 dX4_text_62 rfl ?_
        refine gm_get K hK hcl 30 66 (by decide) q1515 rfl dX4_text_63 rfl ?_
        refine gm_put K hK hcl 32 (ty := .int) 69 (by decide) q1517 rfl (by decide +kernel) rfl rfl rfl dX4_text_66 rfl (fun μ16 _ => ?_)
        exact h10 (r14.1, μ16)
      · exact h10 (r14.1, r14.2)
/-- fault(I)I -/
def m_fault (μ : Mem) (x1 : Int32) : Option (Int32 × Mem) :=
  nm (up2 μ 0 0 (nI 0)) fun μ1 =>
  if x1 = 0 then
  some ((μ1 31 0), μ1)
  else
  if x1 = (nI 1) then
  some ((μ1 32 0), μ1)
  else
  some ((-1 : Int32), μ1)
theorem wd_fault : yX4_fault.cls = RX4 ∧ yX4_fault.cls ≠ "java/lang/invoke/MethodHandle" ∧ yX4_fault.cls ≠ "java/lang/invoke/VarHandle" ∧ (parseMethodDescriptor yX4_fault.desc).map (fun d => d.parameters.length) = some 1 := by decide +kernel
set_option maxRecDepth 100000 in
theorem ct_fault (μ : Mem) (x1 : Int32) : CtM yX4_fault cX4_fault 2 (some .int) 0 0 [.int x1] μ (fun r => (some (.int r.1), r.2)) (m_fault μ x1) := by
  refine CtM.of (by decide) rfl (fun _ => Nat.le_of_ble_eq_true rfl) ?_
  intro l D cl ci cA am p e s m args below meth c hcl K hr hlk hK
  refine g_sub (ls' := [(0, .ref am), (1, .int x1)]) [0, 1] rfl ?_
  unfold m_fault
  refine g_aloadn K 0 rfl rfl 1 dX4_fault_0 rfl ?_
  refine g_iconst K (nI 0) ic_0 2 dX4_fault_1 rfl ?_
  refine gm_put K hK hcl 0 (ty := .int) 5 (by decide) q1485 rfl (by decide +kernel) rfl rfl rfl dX4_fault_2 rfl (fun μ1 _ => ?_)
  refine g_iloadn K 1 rfl rfl 6 dX4_fault_5 rfl ?_
  refine g_if_ne K 9 16 dX4_fault_6 rfl (by decide) (fun _ => ?_) (fun _ => ?_)
  · refine g_aloadn K 0 rfl rfl 10 dX4_fault_9 rfl ?_
    refine gm_get K hK hcl 31 13 (by decide) q1516 rfl dX4_fault_10 rfl ?_
    refine g_goto K 29 dX4_fault_13 (by decide) ?_
    exact gm_iret K hK hcl hr hlk dX4_fault_29 rfl
  · refine g_iloadn K 1 rfl rfl 17 dX4_fault_16 rfl ?_
    refine g_iconst K (nI 1) ic_1 18 dX4_fault_17 rfl ?_
    refine g_icmp_ne K 21 28 dX4_fault_18 rfl (by decide) (fun _ => ?_) (fun _ => ?_)
    · refine g_aloadn K 0 rfl rfl 22 dX4_fault_21 rfl ?_
      refine gm_get K hK hcl 32 25 (by decide) q1517 rfl dX4_fault_22 rfl ?_
      refine g_goto K 29 dX4_fault_25 (by decide) ?_
      exact gm_iret K hK hcl hr hlk dX4_fault_29 rfl
    · refine g_iconst K (-1 : Int32) ic_m1 29 dX4_fault_28 rfl ?_
      exact gm_iret K hK hcl hr hlk dX4_fault_29 rfl
/-- wallOf(II)I -/
def m_wallOf (μ : Mem) (x1 : Int32) (x2 : Int32) : Option (Int32) :=
  (rd μ 1 115 (((nI 7) + ((nI 4) * x1)) + x2)).bind fun v1 =>
  some v1
theorem wd_wallOf : yX4_wallOf.cls = RX4 ∧ yX4_wallOf.cls ≠ "java/lang/invoke/MethodHandle" ∧ yX4_wallOf.cls ≠ "java/lang/invoke/VarHandle" ∧ (parseMethodDescriptor yX4_wallOf.desc).map (fun d => d.parameters.length) = some 2 := by decide +kernel
set_option maxRecDepth 100000 in
theorem ct_wallOf (μ : Mem) (x1 : Int32) (x2 : Int32) : CtM yX4_wallOf cX4_wallOf 3 (some .int) 0 0 [.int x1, .int x2] μ (fun r => (some (.int r), μ)) (m_wallOf μ x1 x2) := by
  refine CtM.of (by decide) rfl (fun _ => Nat.le_of_ble_eq_true rfl) ?_
  intro l D cl ci cA am p e s m args below meth c hcl K hr hlk hK
  refine g_sub (ls' := [(0, .ref am), (1, .int x1), (2, .int x2)]) [0, 1, 2] rfl ?_
  unfold m_wallOf
  refine g_aloadn K 0 rfl rfl 1 dX4_wallOf_0 rfl ?_
  refine gm_get K hK hcl 1 4 (by decide) q1486 rfl dX4_wallOf_1 rfl ?_
  refine g_bipush K (nI 7) bp_7 6 dX4_wallOf_4 rfl ?_
  refine g_iconst K (nI 4) ic_4 7 dX4_wallOf_6 rfl ?_
  refine g_iloadn K 1 rfl rfl 8 dX4_wallOf_7 rfl ?_
  refine g_imul K 9 dX4_wallOf_8 rfl ?_
  refine g_iadd K 10 dX4_wallOf_9 rfl ?_
  refine g_iloadn K 2 rfl rfl 11 dX4_wallOf_10 rfl ?_
  refine g_iadd K 12 dX4_wallOf_11 rfl ?_
  refine gm_ald K hK hcl 1 1 115 13 rfl dX4_wallOf_12 rfl (fun v1 _ => ?_)
  exact gm_iret K hK hcl hr hlk dX4_wallOf_13 rfl
/-- sumOf(I)I -/
def m_sumOf (μ : Mem) (x1 : Int32) : Option (Int32) :=
  (m_wallOf μ x1 (nI 0)).bind fun r1 =>
  (m_wallOf μ x1 (nI 1)).bind fun r2 =>
  (m_wallOf μ x1 (nI 2)).bind fun r3 =>
  (m_wallOf μ x1 (nI 3)).bind fun r4 =>
  some (((r1 + r2) + r3) + r4)
theorem wd_sumOf : yX4_sumOf.cls = RX4 ∧ yX4_sumOf.cls ≠ "java/lang/invoke/MethodHandle" ∧ yX4_sumOf.cls ≠ "java/lang/invoke/VarHandle" ∧ (parseMethodDescriptor yX4_sumOf.desc).map (fun d => d.parameters.length) = some 1 := by decide +kernel
set_option maxRecDepth 100000 in
theorem ct_sumOf (μ : Mem) (x1 : Int32) : CtM yX4_sumOf cX4_sumOf 2 (some .int) 1 22 [.int x1] μ (fun r => (some (.int r), μ)) (m_sumOf μ x1) := by
  refine CtM.of (by decide) rfl (fun _ => Nat.le_of_ble_eq_true rfl) ?_
  intro l D cl ci cA am p e s m args below meth c hcl K hr hlk hK
  refine g_sub (ls' := [(0, .ref am), (1, .int x1)]) [0, 1] rfl ?_
  unfold m_sumOf
  refine g_aloadn K 0 rfl rfl 1 dX4_sumOf_0 rfl ?_
  refine g_iloadn K 1 rfl rfl 2 dX4_sumOf_1 rfl ?_
  refine g_iconst K (nI 0) ic_0 3 dX4_sumOf_2 rfl ?_
  refine gm_call K hK hcl 6 (ct_wallOf μ x1 (nI 0)) (lw_V q1903 q1905 qs94 q158 q1906) wd_wallOf (by decide) rfl (Nat.le_of_ble_eq_true rfl) dX4_sumOf_3 rfl (fun r1 _ => ?_)
  refine g_aloadn K 0 rfl rfl 7 dX4_sumOf_6 rfl ?_
  refine g_iloadn K 1 rfl rfl 8 dX4_sumOf_7 rfl ?_
  refine g_iconst K (nI 1) ic_1 9 dX4_sumOf_8 rfl ?_
  refine gm_call K hK hcl 12 (ct_wallOf μ x1 (nI 1)) (lw_V q1903 q1905 qs94 q158 q1906) wd_wallOf (by decide) rfl (Nat.le_of_ble_eq_true rfl) dX4_sumOf_9 rfl (fun r2 _ => ?_)
  refine g_iadd K 13 dX4_sumOf_12 rfl ?_
  refine g_aloadn K 0 rfl rfl 14 dX4_sumOf_13 rfl ?_
  refine g_iloadn K 1 rfl rfl 15 dX4_sumOf_14 rfl ?_
  refine g_iconst K (nI 2) ic_2 16 dX4_sumOf_15 rfl ?_
  refine gm_call K hK hcl 19 (ct_wallOf μ x1 (nI 2)) (lw_V q1903 q1905 qs94 q158 q1906) wd_wallOf (by decide) rfl (Nat.le_of_ble_eq_true rfl) dX4_sumOf_16 rfl (fun r3 _ => ?_)
  refine g_iadd K 20 dX4_sumOf_19 rfl ?_
  refine g_aloadn K 0 rfl rfl 21 dX4_sumOf_20 rfl ?_
  refine g_iloadn K 1 rfl rfl 22 dX4_sumOf_21 rfl ?_
  refine g_iconst K (nI 3) ic_3 23 dX4_sumOf_22 rfl ?_
  refine gm_call K hK hcl 26 (ct_wallOf μ x1 (nI 3)) (lw_V q1903 q1905 qs94 q158 q1906) wd_wallOf (by decide) rfl (Nat.le_of_ble_eq_true rfl) dX4_sumOf_23 rfl (fun r4 _ => ?_)
  refine g_iadd K 27 dX4_sumOf_26 rfl ?_
  exact gm_iret K hK hcl hr hlk dX4_sumOf_27 rfl
/-- doesStand(I)Z -/
def m_doesStand (μ : Mem) (x1 : Int32) : Option (Bool) :=
  (m_sumOf μ x1).bind fun r1 =>
  if r1 ≤ 0 then
  some false
  else
  some true
theorem wd_doesStand : yX4_doesStand.cls = RX4 ∧ yX4_doesStand.cls ≠ "java/lang/invoke/MethodHandle" ∧ yX4_doesStand.cls ≠ "java/lang/invoke/VarHandle" ∧ (parseMethodDescriptor yX4_doesStand.desc).map (fun d => d.parameters.length) = some 1 := by decide +kernel
set_option maxRecDepth 100000 in
theorem ct_doesStand (μ : Mem) (x1 : Int32) : CtM yX4_doesStand cX4_doesStand 2 (some .boolean) 2 43 [.int x1] μ (fun r => (some (.int (bI r)), μ)) (m_doesStand μ x1) := by
  refine CtM.of (by decide) rfl (fun _ => Nat.le_of_ble_eq_true rfl) ?_
  intro l D cl ci cA am p e s m args below meth c hcl K hr hlk hK
  refine g_sub (ls' := [(0, .ref am), (1, .int x1)]) [0, 1] rfl ?_
  unfold m_doesStand
  refine g_aloadn K 0 rfl rfl 1 dX4_doesStand_0 rfl ?_
  refine g_iloadn K 1 rfl rfl 2 dX4_doesStand_1 rfl ?_
  refine gm_call K hK hcl 5 (ct_sumOf μ x1) (lw_V q1915 q1917 qs97 q158 q1918) wd_sumOf (by decide) rfl (Nat.le_of_ble_eq_true rfl) dX4_doesStand_2 rfl (fun r1 _ => ?_)
  refine g_if_le K 8 12 dX4_doesStand_5 rfl (by decide) (fun _ => ?_) (fun _ => ?_)
  · refine g_iconst K (nI 0) ic_0 13 dX4_doesStand_12 rfl ?_
    exact gm_zret K hK hcl hr hlk (b := false) dX4_doesStand_13 rfl rfl
  · refine g_iconst K (nI 1) ic_1 9 dX4_doesStand_8 rfl ?_
    refine g_goto K 13 dX4_doesStand_9 (by decide) ?_
    exact gm_zret K hK hcl hr hlk (b := true) dX4_doesStand_13 rfl rfl
/-- canWed(I)Z -/
def m_canWed (μ : Mem) (x1 : Int32) : Option (Bool) :=
  (m_doesStand μ x1).bind fun r1 =>
  if (bI r1) = 0 then
  some false
  else
  (rd μ 1 115 ((nI 91) + x1)).bind fun v2 =>
  if v2 = 0 then
  (rd μ 1 115 ((nI 79) + x1)).bind fun v3 =>
  if v3 ≤ 0 then
  some false
  else
  some true
  else
  some false
theorem wd_canWed : yX4_canWed.cls = RX4 ∧ yX4_canWed.cls ≠ "java/lang/invoke/MethodHandle" ∧ yX4_canWed.cls ≠ "java/lang/invoke/VarHandle" ∧ (parseMethodDescriptor yX4_canWed.desc).map (fun d => d.parameters.length) = some 1 := by decide +kernel
set_option maxRecDepth 100000 in
theorem ct_canWed (μ : Mem) (x1 : Int32) : CtM yX4_canWed cX4_canWed 2 (some .boolean) 3 64 [.int x1] μ (fun r => (some (.int (bI r)), μ)) (m_canWed μ x1) := by
  refine CtM.of (by decide) rfl (fun _ => Nat.le_of_ble_eq_true rfl) ?_
  intro l D cl ci cA am p e s m args below meth c hcl K hr hlk hK
  refine g_sub (ls' := [(0, .ref am), (1, .int x1)]) [0, 1] rfl ?_
  unfold m_canWed
  refine g_aloadn K 0 rfl rfl 1 dX4_canWed_0 rfl ?_
  refine g_iloadn K 1 rfl rfl 2 dX4_canWed_1 rfl ?_
  refine gm_call K hK hcl 5 (ct_doesStand μ x1) (lw_V q1911 q1913 qs96 q158 q1914) wd_doesStand (by decide) rfl (Nat.le_of_ble_eq_true rfl) dX4_canWed_2 rfl (fun r1 _ => ?_)
  refine g_if_eq K 8 36 dX4_canWed_5 rfl (by decide) (fun _ => ?_) (fun _ => ?_)
  · refine g_iconst K (nI 0) ic_0 37 dX4_canWed_36 rfl ?_
    exact gm_zret K hK hcl hr hlk (b := false) dX4_canWed_37 rfl rfl
  · refine g_aloadn K 0 rfl rfl 9 dX4_canWed_8 rfl ?_
    refine gm_get K hK hcl 1 12 (by decide) q1486 rfl dX4_canWed_9 rfl ?_
    refine g_bipush K (nI 91) bp_91 14 dX4_canWed_12 rfl ?_
    refine g_iloadn K 1 rfl rfl 15 dX4_canWed_14 rfl ?_
    refine g_iadd K 16 dX4_canWed_15 rfl ?_
    refine gm_ald K hK hcl 1 1 115 17 rfl dX4_canWed_16 rfl (fun v2 _ => ?_)
    refine g_if_ne K 20 36 dX4_canWed_17 rfl (by decide) (fun _ => ?_) (fun _ => ?_)
    · refine g_aloadn K 0 rfl rfl 21 dX4_canWed_20 rfl ?_
      refine gm_get K hK hcl 1 24 (by decide) q1486 rfl dX4_canWed_21 rfl ?_
      refine g_bipush K (nI 79) bp_79 26 dX4_canWed_24 rfl ?_
      refine g_iloadn K 1 rfl rfl 27 dX4_canWed_26 rfl ?_
      refine g_iadd K 28 dX4_canWed_27 rfl ?_
      refine gm_ald K hK hcl 1 1 115 29 rfl dX4_canWed_28 rfl (fun v3 _ => ?_)
      refine g_if_le K 32 36 dX4_canWed_29 rfl (by decide) (fun _ => ?_) (fun _ => ?_)
      · refine g_iconst K (nI 0) ic_0 37 dX4_canWed_36 rfl ?_
        exact gm_zret K hK hcl hr hlk (b := false) dX4_canWed_37 rfl rfl
      · refine g_iconst K (nI 1) ic_1 33 dX4_canWed_32 rfl ?_
        refine g_goto K 37 dX4_canWed_33 (by decide) ?_
        exact gm_zret K hK hcl hr hlk (b := true) dX4_canWed_37 rfl rfl
    · refine g_iconst K (nI 0) ic_0 37 dX4_canWed_36 rfl ?_
      exact gm_zret K hK hcl hr hlk (b := false) dX4_canWed_37 rfl rfl
/-- canAct(III)Z -/
def m_canAct (μ : Mem) (x1 : Int32) (x2 : Int32) (x3 : Int32) : Option (Bool) :=
  (m_isHouse μ x2).bind fun r1 =>
  if (bI r1) = 0 then
  some false
  else
  (m_isIn μ x1 (nI 0) (nI 3)).bind fun r2 =>
  if (bI r2) = 0 then
  (m_isIn μ x1 (nI 10) (nI 13)).bind fun r3 =>
  if (bI r3) = 0 then
  if x1 = (nI 20) then
  (m_canWed μ x2).bind fun r8 =>
  some r8
  else
  if x1 = (nI 21) then
  (rd μ 1 115 ((nI 79) + x2)).bind fun v5 =>
  if v5 ≤ 0 then
  some false
  else
  (m_isHouse μ x3).bind fun r6 =>
  if (bI r6) = 0 then
  some false
  else
  if x3 = x2 then
  some false
  else
  (m_doesStand μ x3).bind fun r7 =>
  if (bI r7) = 0 then
  some false
  else
  some true
  else
  if x1 = (nI 22) then
  (m_doesStand μ x2).bind fun r4 =>
  if (bI r4) = 0 then
  some false
  else
  some true
  else
  some false
  else
  (m_isIn μ x3 (nI 1) (nI 99)).bind fun r9 =>
  some r9
  else
  (m_wallOf μ x2 x1).bind fun r10 =>
  (m_isIn μ x3 (nI 1) r10).bind fun r11 =>
  some r11
theorem wd_canAct : yX4_canAct.cls = RX4 ∧ yX4_canAct.cls ≠ "java/lang/invoke/MethodHandle" ∧ yX4_canAct.cls ≠ "java/lang/invoke/VarHandle" ∧ (parseMethodDescriptor yX4_canAct.desc).map (fun d => d.parameters.length) = some 3 := by decide +kernel
set_option maxRecDepth 100000 in
theorem ct_canAct (μ : Mem) (x1 : Int32) (x2 : Int32) (x3 : Int32) : CtM yX4_canAct cX4_canAct 4 (some .boolean) 4 85 [.int x1, .int x2, .int x3] μ (fun r => (some (.int (bI r)), μ)) (m_canAct μ x1 x2 x3) := by
  refine CtM.of (by decide) rfl (fun _ => Nat.le_of_ble_eq_true rfl) ?_
  intro l D cl ci cA am p e s m args below meth c hcl K hr hlk hK
  refine g_sub (ls' := [(0, .ref am), (1, .int x1), (2, .int x2), (3, .int x3)]) [0, 1, 2, 3] rfl ?_
  unfold m_canAct
  refine g_aloadn K 0 rfl rfl 1 dX4_canAct_0 rfl ?_
  refine g_iloadn K 2 rfl rfl 2 dX4_canAct_1 rfl ?_
  refine gm_call K hK hcl 5 (ct_isHouse μ x2) (lw_V q1735 q1737 qs57 q158 q1738) wd_isHouse (by decide) rfl (Nat.le_of_ble_eq_true rfl) dX4_canAct_2 rfl (fun r1 _ => ?_)
  refine g_if_ne K 8 10 dX4_canAct_5 rfl (by decide) (fun _ => ?_) (fun _ => ?_)
  · refine g_iconst K (nI 0) ic_0 9 dX4_canAct_8 rfl ?_
    exact gm_zret K hK hcl hr hlk (b := false) dX4_canAct_9 rfl rfl
  · refine g_aloadn K 0 rfl rfl 11 dX4_canAct_10 rfl ?_
    refine g_iloadn K 1 rfl rfl 12 dX4_canAct_11 rfl ?_
    refine g_iconst K (nI 0) ic_0 13 dX4_canAct_12 rfl ?_
    refine g_iconst K (nI 3) ic_3 14 dX4_canAct_13 rfl ?_
    refine gm_call K hK hcl 17 (ct_isIn μ x1 (nI 0) (nI 3)) (lw_V q1723 q1725 qs55 q158 q1726) wd_isIn (by decide) rfl (Nat.le_of_ble_eq_true rfl) dX4_canAct_14 rfl (fun r2 _ => ?_)
    refine g_if_eq K 20 33 dX4_canAct_17 rfl (by decide) (fun _ => ?_) (fun _ => ?_)
    · refine g_aloadn K 0 rfl rfl 34 dX4_canAct_33 rfl ?_
      refine g_iloadn K 1 rfl rfl 35 dX4_canAct_34 rfl ?_
      refine g_bipush K (nI 10) bp_10 37 dX4_canAct_35 rfl ?_
      refine g_bipush K (nI 13) bp_13 39 dX4_canAct_37 rfl ?_
      refine gm_call K hK hcl 42 (ct_isIn μ x1 (nI 10) (nI 13)) (lw_V q1723 q1725 qs55 q158 q1726) wd_isIn (by decide) rfl (Nat.le_of_ble_eq_true rfl) dX4_canAct_39 rfl (fun r3 _ => ?_)
      refine g_if_eq K 45 54 dX4_canAct_42 rfl (by decide) (fun _ => ?_) (fun _ => ?_)
      · refine g_iloadn K 1 rfl rfl 55 dX4_canAct_54 rfl ?_
        refine g_bipush K (nI 20) bp_20 57 dX4_canAct_55 rfl ?_
        refine g_icmp_ne K 60 66 dX4_canAct_57 rfl (by decide) (fun _ => ?_) (fun _ => ?_)
        · refine g_aloadn K 0 rfl rfl 61 dX4_canAct_60 rfl ?_
          refine g_iloadn K 2 rfl rfl 62 dX4_canAct_61 rfl ?_
          refine gm_call K hK hcl 65 (ct_canWed μ x2) (lw_V q1907 q1909 qs95 q158 q1910) wd_canWed (by decide) rfl (Nat.le_of_ble_eq_true rfl) dX4_canAct_62 rfl (fun r8 _ => ?_)
          exact gm_zret K hK hcl hr hlk (b := r8) dX4_canAct_65 rfl rfl
        · refine g_iloadn K 1 rfl rfl 67 dX4_canAct_66 rfl ?_
          refine g_bipush K (nI 21) bp_21 69 dX4_canAct_67 rfl ?_
          refine g_icmp_ne K 72 111 dX4_canAct_69 rfl (by decide) (fun _ => ?_) (fun _ => ?_)
          · refine g_aloadn K 0 rfl rfl 73 dX4_canAct_72 rfl ?_
            refine gm_get K hK hcl 1 76 (by decide) q1486 rfl dX4_canAct_73 rfl ?_
            refine g_bipush K (nI 79) bp_79 78 dX4_canAct_76 rfl ?_
            refine g_iloadn K 2 rfl rfl 79 dX4_canAct_78 rfl ?_
            refine g_iadd K 80 dX4_canAct_79 rfl ?_
            refine gm_ald K hK hcl 1 1 115 81 rfl dX4_canAct_80 rfl (fun v5 _ => ?_)
            refine g_if_le K 84 109 dX4_canAct_81 rfl (by decide) (fun _ => ?_) (fun _ => ?_)
            · refine g_iconst K (nI 0) ic_0 110 dX4_canAct_109 rfl ?_
              exact gm_zret K hK hcl hr hlk (b := false) dX4_canAct_110 rfl rfl
            · refine g_aloadn K 0 rfl rfl 85 dX4_canAct_84 rfl ?_
              refine g_iloadn K 3 rfl rfl 86 dX4_canAct_85 rfl ?_
              refine gm_call K hK hcl 89 (ct_isHouse μ x3) (lw_V q1735 q1737 qs57 q158 q1738) wd_isHouse (by decide) rfl (Nat.le_of_ble_eq_true rfl) dX4_canAct_86 rfl (fun r6 _ => ?_)
              refine g_if_eq K 92 109 dX4_canAct_89 rfl (by decide) (fun _ => ?_) (fun _ => ?_)
              · refine g_iconst K (nI 0) ic_0 110 dX4_canAct_109 rfl ?_
                exact gm_zret K hK hcl hr hlk (b := false) dX4_canAct_110 rfl rfl
              · refine g_iloadn K 3 rfl rfl 93 dX4_canAct_92 rfl ?_
                refine g_iloadn K 2 rfl rfl 94 dX4_canAct_93 rfl ?_
                refine g_icmp_eq K 97 109 dX4_canAct_94 rfl (by decide) (fun _ => ?_) (fun _ => ?_)
                · refine g_iconst K (nI 0) ic_0 110 dX4_canAct_109 rfl ?_
                  exact gm_zret K hK hcl hr hlk (b := false) dX4_canAct_110 rfl rfl
                · refine g_aloadn K 0 rfl rfl 98 dX4_canAct_97 rfl ?_
                  refine g_iloadn K 3 rfl rfl 99 dX4_canAct_98 rfl ?_
                  refine gm_call K hK hcl 102 (ct_doesStand μ x3) (lw_V q1911 q1913 qs96 q158 q1914) wd_doesStand (by decide) rfl (Nat.le_of_ble_eq_true rfl) dX4_canAct_99 rfl (fun r7 _ => ?_)
                  refine g_if_eq K 105 109 dX4_canAct_102 rfl (by decide) (fun _ => ?_) (fun _ => ?_)
                  · refine g_iconst K (nI 0) ic_0 110 dX4_canAct_109 rfl ?_
                    exact gm_zret K hK hcl hr hlk (b := false) dX4_canAct_110 rfl rfl
                  · refine g_iconst K (nI 1) ic_1 106 dX4_canAct_105 rfl ?_
                    refine g_goto K 110 dX4_canAct_106 (by decide) ?_
                    exact gm_zret K hK hcl hr hlk (b := true) dX4_canAct_110 rfl rfl
          · refine g_iloadn K 1 rfl rfl 112 dX4_canAct_111 rfl ?_
            refine g_bipush K (nI 22) bp_22 114 dX4_canAct_112 rfl ?_
            refine g_icmp_ne K 117 129 dX4_canAct_114 rfl (by decide) (fun _ => ?_) (fun _ => ?_)
            · refine g_aloadn K 0 rfl rfl 118 dX4_canAct_117 rfl ?_
              refine g_iloadn K 2 rfl rfl 119 dX4_canAct_118 rfl ?_
              refine gm_call K hK hcl 122 (ct_doesStand μ x2) (lw_V q1911 q1913 qs96 q158 q1914) wd_doesStand (by decide) rfl (Nat.le_of_ble_eq_true rfl) dX4_canAct_119 rfl (fun r4 _ => ?_)
              refine g_if_eq K 125 129 dX4_canAct_122 rfl (by decide) (fun _ => ?_) (fun _ => ?_)
              · refine g_iconst K (nI 0) ic_0 130 dX4_canAct_129 rfl ?_
                exact gm_zret K hK hcl hr hlk (b := false) dX4_canAct_130 rfl rfl
              · refine g_iconst K (nI 1) ic_1 126 dX4_canAct_125 rfl ?_
                refine g_goto K 130 dX4_canAct_126 (by decide) ?_
                exact gm_zret K hK hcl hr hlk (b := true) dX4_canAct_130 rfl rfl
            · refine g_iconst K (nI 0) ic_0 130 dX4_canAct_129 rfl ?_
              exact gm_zret K hK hcl hr hlk (b := false) dX4_canAct_130 rfl rfl
      · refine g_aloadn K 0 rfl rfl 46 dX4_canAct_45 rfl ?_
        refine g_iloadn K 3 rfl rfl 47 dX4_canAct_46 rfl ?_
        refine g_iconst K (nI 1) ic_1 48 dX4_canAct_47 rfl ?_
        refine g_bipush K (nI 99) bp_99 50 dX4_canAct_48 rfl ?_
        refine gm_call K hK hcl 53 (ct_isIn μ x3 (nI 1) (nI 99)) (lw_V q1723 q1725 qs55 q158 q1726) wd_isIn (by decide) rfl (Nat.le_of_ble_eq_true rfl) dX4_canAct_50 rfl (fun r9 _ => ?_)
        exact gm_zret K hK hcl hr hlk (b := r9) dX4_canAct_53 rfl rfl
    · refine g_aloadn K 0 rfl rfl 21 dX4_canAct_20 rfl ?_
      refine g_iloadn K 3 rfl rfl 22 dX4_canAct_21 rfl ?_
      refine g_iconst K (nI 1) ic_1 23 dX4_canAct_22 rfl ?_
      refine g_aloadn K 0 rfl rfl 24 dX4_canAct_23 rfl ?_
      refine g_iloadn K 2 rfl rfl 25 dX4_canAct_24 rfl ?_
      refine g_iloadn K 1 rfl rfl 26 dX4_canAct_25 rfl ?_
      refine gm_call K hK hcl 29 (ct_wallOf μ x2 x1) (lw_V q1903 q1905 qs94 q158 q1906) wd_wallOf (by decide) rfl (Nat.le_of_ble_eq_true rfl) dX4_canAct_26 rfl (fun r10 _ => ?_)
      refine gm_call K hK hcl 32 (ct_isIn μ x3 (nI 1) r10) (lw_V q1723 q1725 qs55 q158 q1726) wd_isIn (by decide) rfl (Nat.le_of_ble_eq_true rfl) dX4_canAct_29 rfl (fun r11 _ => ?_)
      exact gm_zret K hK hcl hr hlk (b := r11) dX4_canAct_32 rfl rfl
/-- keepsAhead()V -/
def m_keepsAhead (μ : Mem) : Option (Mem) :=
  jn (fun (j1 : Mem) =>
  jn (fun (j4 : Mem) =>
  nm (up2 j4 3 0 ((j4 3 0) + (nI 1))) fun μ7 =>
  some μ7) (fun k5 =>
  lp (fun again9 (j8 : Int32 × Mem) =>
  if (nI 115) ≤ j8.1 then
  k5 j8.2
  else
  (rd j8.2 1 115 j8.1).bind fun v11 =>
  (wr j8.2 2 690 (((nI 115) * (j8.2 3 0)) + j8.1) v11).bind fun μ12 =>
  again9 ((j8.1 + (nI 1)), μ12)) fuel ((nI 0), j1))) (fun k2 =>
  if (μ 3 0) = (nI 6) then
  nm (up2 μ 3 0 ((μ 3 0) - (nI 1))) fun μ13 =>
  lp (fun again15 (j14 : Int32 × Mem) =>
  if ((nI 115) * (j14.2 3 0)) ≤ j14.1 then
  k2 j14.2
  else
  (rd j14.2 2 690 (j14.1 + (nI 115))).bind fun v17 =>
  (wr j14.2 2 690 j14.1 v17).bind fun μ18 =>
  again15 ((j14.1 + (nI 1)), μ18)) fuel ((nI 0), μ13)
  else
  k2 μ)
theorem wd_keepsAhead : yX4_keepsAhead.cls = RX4 ∧ yX4_keepsAhead.cls ≠ "java/lang/invoke/MethodHandle" ∧ yX4_keepsAhead.cls ≠ "java/lang/invoke/VarHandle" ∧ (parseMethodDescriptor yX4_keepsAhead.desc).map (fun d => d.parameters.length) = some 0 := by decide +kernel
set_option maxRecDepth 100000 in
theorem ct_keepsAhead (μ : Mem) : CtM yX4_keepsAhead cX4_keepsAhead 2 none 0 0 [] μ (fun r => (none, r)) (m_keepsAhead μ) := by
  refine CtM.of (by decide) rfl (fun _ => Nat.le_of_ble_eq_true rfl) ?_
  intro l D cl ci cA am p e s m args below meth c hcl K hr hlk hK
  refine g_sub (ls' := [(0, .ref am)]) [0] rfl ?_
  unfold m_keepsAhead
  refine g_aloadn K 0 rfl rfl 1 dX4_keepsAhead_0 rfl ?_
  refine gm_get K hK hcl 3 4 (by decide) q1488 rfl dX4_keepsAhead_1 rfl ?_
  refine g_bipush K (nI 6) bp_6 6 dX4_keepsAhead_4 rfl ?_
  refine g_jn (head := 53) (L := fun j1 => [(0, .ref am)]) (sf := fun j1 => []) (mf := fun j1 => j1) (fun j1 => ?_) (fun k2 h3 => ?_)
  · try dsimp only
    refine g_iconst K (nI 0) ic_0 54 dX4_keepsAhead_53 rfl ?_
    refine g_istoren K [(0, .ref am), (1, .int (nI 0))] [1, 0] rfl (by decide) rfl 55 dX4_keepsAhead_54 rfl ?_
    refine g_jn (head := 87) (L := fun j4 => [(0, .ref am)]) (sf := fun j4 => []) (mf := fun j4 => j4) (fun j4 => ?_) (fun k5 h6 => ?_)
    · try dsimp only
      refine g_aloadn K 0 rfl rfl 88 dX4_keepsAhead_87 rfl ?_
      refine g_aloadn K 0 rfl rfl 89 dX4_keepsAhead_88 rfl ?_
      refine gm_get K hK hcl 3 92 (by decide) q1488 rfl dX4_keepsAhead_89 rfl ?_
      refine g_iconst K (nI 1) ic_1 93 dX4_keepsAhead_92 rfl ?_
      refine g_iadd K 94 dX4_keepsAhead_93 rfl ?_
      refine gm_put K hK hcl 3 (ty := .int) 97 (by decide) q1488 rfl (by decide +kernel) rfl rfl rfl dX4_keepsAhead_94 rfl (fun μ7 _ => ?_)
      exact gm_vret K hK hcl hr hlk dX4_keepsAhead_97 rfl
    · refine g_lp (head := 55) (L := fun j8 => [(0, .ref am), (1, .int j8.1)]) (sf := fun j8 => []) (mf := fun j8 => j8.2) (fun again9 h10 j8 => ?_) fuel ((nI 0), j1)
      try dsimp only
      refine g_iloadn K 1 rfl rfl 56 dX4_keepsAhead_55 rfl ?_
      refine g_bipush K (nI 115) bp_115 58 dX4_keepsAhead_56 rfl ?_
      refine g_icmp_ge K 61 87 dX4_keepsAhead_58 rfl (by decide) (fun _ => ?_) (fun _ => ?_)
      · refine g_sub (ls' := [(0, .ref am)]) [0] rfl ?_
        exact h6 j8.2
      · refine g_aloadn K 0 rfl rfl 62 dX4_keepsAhead_61 rfl ?_
        refine gm_get K hK hcl 2 65 (by decide) q1487 rfl dX4_keepsAhead_62 rfl ?_
        refine g_bipush K (nI 115) bp_115 67 dX4_keepsAhead_65 rfl ?_
        refine g_aloadn K 0 rfl rfl 68 dX4_keepsAhead_67 rfl ?_
        refine gm_get K hK hcl 3 71 (by decide) q1488 rfl dX4_keepsAhead_68 rfl ?_
        refine g_imul K 72 dX4_keepsAhead_71 rfl ?_
        refine g_iloadn K 1 rfl rfl 73 dX4_keepsAhead_72 rfl ?_
        refine g_iadd K 74 dX4_keepsAhead_73 rfl ?_
        refine g_aloadn K 0 rfl rfl 75 dX4_keepsAhead_74 rfl ?_
        refine gm_get K hK hcl 1 78 (by decide) q1486 rfl dX4_keepsAhead_75 rfl ?_
        refine g_iloadn K 1 rfl rfl 79 dX4_keepsAhead_78 rfl ?_
        refine gm_ald K hK hcl 1 1 115 80 rfl dX4_keepsAhead_79 rfl (fun v11 _ => ?_)
        refine gm_ast K hK hcl 2 2 690 81 rfl (fun _ => rfl) dX4_keepsAhead_80 rfl (fun μ12 _ => ?_)
        refine g_iinc K (j8.1 + (nI 1)) 1 [(0, .ref am), (1, .int (j8.1 + (nI 1)))] [1, 0] rfl (by rw [ic_1]) (by decide) rfl 84 dX4_keepsAhead_81 rfl ?_
        refine g_goto K 55 dX4_keepsAhead_84 (by decide) ?_
        exact h10 ((j8.1 + (nI 1)), μ12)
  · refine g_icmp_ne K 9 53 dX4_keepsAhead_6 rfl (by decide) (fun _ => ?_) (fun _ => ?_)
    · refine g_aloadn K 0 rfl rfl 10 dX4_keepsAhead_9 rfl ?_
      refine g_aloadn K 0 rfl rfl 11 dX4_keepsAhead_10 rfl ?_
      refine gm_get K hK hcl 3 14 (by decide) q1488 rfl dX4_keepsAhead_11 rfl ?_
      refine g_iconst K (nI 1) ic_1 15 dX4_keepsAhead_14 rfl ?_
      refine g_isub K 16 dX4_keepsAhead_15 rfl ?_
      refine gm_put K hK hcl 3 (ty := .int) 19 (by decide) q1488 rfl (by decide +kernel) rfl rfl rfl dX4_keepsAhead_16 rfl (fun μ13 _ => ?_)
      refine g_iconst K (nI 0) ic_0 20 dX4_keepsAhead_19 rfl ?_
      refine g_istoren K [(0, .ref am), (1, .int (nI 0))] [1, 0] rfl (by decide) rfl 21 dX4_keepsAhead_20 rfl ?_
      refine g_lp (head := 21) (L := fun j14 => [(0, .ref am), (1, .int j14.1)]) (sf := fun j14 => []) (mf := fun j14 => j14.2) (fun again15 h16 j14 => ?_) fuel ((nI 0), μ13)
      try dsimp only
      refine g_iloadn K 1 rfl rfl 22 dX4_keepsAhead_21 rfl ?_
      refine g_bipush K (nI 115) bp_115 24 dX4_keepsAhead_22 rfl ?_
      refine g_aloadn K 0 rfl rfl 25 dX4_keepsAhead_24 rfl ?_
      refine gm_get K hK hcl 3 28 (by decide) q1488 rfl dX4_keepsAhead_25 rfl ?_
      refine g_imul K 29 dX4_keepsAhead_28 rfl ?_
      refine g_icmp_ge K 32 53 dX4_keepsAhead_29 rfl (by decide) (fun _ => ?_) (fun _ => ?_)
      · refine g_sub (ls' := [(0, .ref am)]) [0] rfl ?_
        exact h3 j14.2
      · refine g_aloadn K 0 rfl rfl 33 dX4_keepsAhead_32 rfl ?_
        refine gm_get K hK hcl 2 36 (by decide) q1487 rfl dX4_keepsAhead_33 rfl ?_
        refine g_iloadn K 1 rfl rfl 37 dX4_keepsAhead_36 rfl ?_
        refine g_aloadn K 0 rfl rfl 38 dX4_keepsAhead_37 rfl ?_
        refine gm_get K hK hcl 2 41 (by decide) q1487 rfl dX4_keepsAhead_38 rfl ?_
        refine g_iloadn K 1 rfl rfl 42 dX4_keepsAhead_41 rfl ?_
        refine g_bipush K (nI 115) bp_115 44 dX4_keepsAhead_42 rfl ?_
        refine g_iadd K 45 dX4_keepsAhead_44 rfl ?_
        refine gm_ald K hK hcl 2 2 690 46 rfl dX4_keepsAhead_45 rfl (fun v17 _ => ?_)
        refine gm_ast K hK hcl 2 2 690 47 rfl (fun _ => rfl) dX4_keepsAhead_46 rfl (fun μ18 _ => ?_)
        refine g_iinc K (j14.1 + (nI 1)) 1 [(0, .ref am), (1, .int (j14.1 + (nI 1)))] [1, 0] rfl (by rw [ic_1]) (by decide) rfl 50 dX4_keepsAhead_47 rfl ?_
        refine g_goto K 21 dX4_keepsAhead_50 (by decide) ?_
        exact h16 ((j14.1 + (nI 1)), μ18)
    · exact h3 μ
/-- notes(III)V -/
def m_notes (μ : Mem) (x1 : Int32) (x2 : Int32) (x3 : Int32) : Option (Mem) :=
  if (μ 5 0) = 0 then
  (rd μ 1 115 (nI 2)).bind fun v1 =>
  if v1 = (nI 150) then
  some μ
  else
  (rd μ 1 115 (nI 2)).bind fun v2 =>
  nm ((nI 4) * v2) fun v3 =>
  (rd μ 1 115 (nI 0)).bind fun v4 =>
  (wr μ 9 600 v3 v4).bind fun μ5 =>
  (wr μ5 9 600 (v3 + (nI 1)) x1).bind fun μ6 =>
  (wr μ6 9 600 (v3 + (nI 2)) x2).bind fun μ7 =>
  (wr μ7 9 600 (v3 + (nI 3)) x3).bind fun μ8 =>
  (rd μ8 1 115 (nI 2)).bind fun v9 =>
  (wr μ8 1 115 (nI 2) (v9 + (nI 1))).bind fun μ10 =>
  some μ10
  else
  some μ
theorem wd_notes : yX4_notes.cls = RX4 ∧ yX4_notes.cls ≠ "java/lang/invoke/MethodHandle" ∧ yX4_notes.cls ≠ "java/lang/invoke/VarHandle" ∧ (parseMethodDescriptor yX4_notes.desc).map (fun d => d.parameters.length) = some 3 := by decide +kernel
set_option maxRecDepth 100000 in
theorem ct_notes (μ : Mem) (x1 : Int32) (x2 : Int32) (x3 : Int32) : CtM yX4_notes cX4_notes 5 none 0 0 [.int x1, .int x2, .int x3] μ (fun r => (none, r)) (m_notes μ x1 x2 x3) := by
  refine CtM.of (by decide) rfl (fun _ => Nat.le_of_ble_eq_true rfl) ?_
  intro l D cl ci cA am p e s m args below meth c hcl K hr hlk hK
  refine g_sub (ls' := [(0, .ref am), (1, .int x1), (2, .int x2), (3, .int x3)]) [0, 1, 2, 3] rfl ?_
  unfold m_notes
  refine g_aloadn K 0 rfl rfl 1 dX4_notes_0 rfl ?_
  refine gm_get K hK hcl 5 4 (by decide) q1490 rfl dX4_notes_1 rfl ?_
  refine g_if_ne K 7 19 dX4_notes_4 rfl (by decide) (fun _ => ?_) (fun _ => ?_)
  · refine g_aloadn K 0 rfl rfl 8 dX4_notes_7 rfl ?_
    refine gm_get K hK hcl 1 11 (by decide) q1486 rfl dX4_notes_8 rfl ?_
    refine g_iconst K (nI 2) ic_2 12 dX4_notes_11 rfl ?_
    refine gm_ald K hK hcl 1 1 115 13 rfl dX4_notes_12 rfl (fun v1 _ => ?_)
    refine g_sipush K (nI 150) sp_150 16 dX4_notes_13 rfl ?_
    refine g_icmp_ne K 19 20 dX4_notes_16 rfl (by decide) (fun _ => ?_) (fun _ => ?_)
    · exact gm_vret K hK hcl hr hlk dX4_notes_19 rfl
    · refine g_iconst K (nI 4) ic_4 21 dX4_notes_20 rfl ?_
      refine g_aloadn K 0 rfl rfl 22 dX4_notes_21 rfl ?_
      refine gm_get K hK hcl 1 25 (by decide) q1486 rfl dX4_notes_22 rfl ?_
      refine g_iconst K (nI 2) ic_2 26 dX4_notes_25 rfl ?_
      refine gm_ald K hK hcl 1 1 115 27 rfl dX4_notes_26 rfl (fun v2 _ => ?_)
      refine g_imul K 28 dX4_notes_27 rfl ?_
      refine g_nm (fun v3 _ => ?_)
      refine g_istore K [(0, .ref am), (1, .int x1), (2, .int x2), (3, .int x3), (4, .int v3)] [1, 2, 3, 4, 0] (by decide) rfl 30 dX4_notes_28 rfl ?_
      refine g_aloadn K 0 rfl rfl 31 dX4_notes_30 rfl ?_
      refine gm_get K hK hcl 9 34 (by decide) q1494 rfl dX4_notes_31 rfl ?_
      refine g_iload K 4 rfl 36 dX4_notes_34 rfl ?_
      refine g_aloadn K 0 rfl rfl 37 dX4_notes_36 rfl ?_
      refine gm_get K hK hcl 1 40 (by decide) q1486 rfl dX4_notes_37 rfl ?_
      refine g_iconst K (nI 0) ic_0 41 dX4_notes_40 rfl ?_
      refine gm_ald K hK hcl 1 1 115 42 rfl dX4_notes_41 rfl (fun v4 _ => ?_)
      refine gm_ast K hK hcl 9 6 600 43 rfl (fun _ => rfl) dX4_notes_42 rfl (fun μ5 _ => ?_)
      refine g_aloadn K 0 rfl rfl 44 dX4_notes_43 rfl ?_
      refine gm_get K hK hcl 9 47 (by decide) q1494 rfl dX4_notes_44 rfl ?_
      refine g_iload K 4 rfl 49 dX4_notes_47 rfl ?_
      refine g_iconst K (nI 1) ic_1 50 dX4_notes_49 rfl ?_
      refine g_iadd K 51 dX4_notes_50 rfl ?_
      refine g_iloadn K 1 rfl rfl 52 dX4_notes_51 rfl ?_
      refine gm_ast K hK hcl 9 6 600 53 rfl (fun _ => rfl) dX4_notes_52 rfl (fun μ6 _ => ?_)
      refine g_aloadn K 0 rfl rfl 54 dX4_notes_53 rfl ?_
      refine gm_get K hK hcl 9 57 (by decide) q1494 rfl dX4_notes_54 rfl ?_
      refine g_iload K 4 rfl 59 dX4_notes_57 rfl ?_
      refine g_iconst K (nI 2) ic_2 60 dX4_notes_59 rfl ?_
      refine g_iadd K 61 dX4_notes_60 rfl ?_
      refine g_iloadn K 2 rfl rfl 62 dX4_notes_61 rfl ?_
      refine gm_ast K hK hcl 9 6 600 63 rfl (fun _ => rfl) dX4_notes_62 rfl (fun μ7 _ => ?_)
      refine g_aloadn K 0 rfl rfl 64 dX4_notes_63 rfl ?_
      refine gm_get K hK hcl 9 67 (by decide) q1494 rfl dX4_notes_64 rfl ?_
      refine g_iload K 4 rfl 69 dX4_notes_67 rfl ?_
      refine g_iconst K (nI 3) ic_3 70 dX4_notes_69 rfl ?_
      refine g_iadd K 71 dX4_notes_70 rfl ?_
      refine g_iloadn K 3 rfl rfl 72 dX4_notes_71 rfl ?_
      refine gm_ast K hK hcl 9 6 600 73 rfl (fun _ => rfl) dX4_notes_72 rfl (fun μ8 _ => ?_)
      refine g_aloadn K 0 rfl rfl 74 dX4_notes_73 rfl ?_
      refine gm_get K hK hcl 1 77 (by decide) q1486 rfl dX4_notes_74 rfl ?_
      refine g_iconst K (nI 2) ic_2 78 dX4_notes_77 rfl ?_
      refine g_aloadn K 0 rfl rfl 79 dX4_notes_78 rfl ?_
      refine gm_get K hK hcl 1 82 (by decide) q1486 rfl dX4_notes_79 rfl ?_
      refine g_iconst K (nI 2) ic_2 83 dX4_notes_82 rfl ?_
      refine gm_ald K hK hcl 1 1 115 84 rfl dX4_notes_83 rfl (fun v9 _ => ?_)
      refine g_iconst K (nI 1) ic_1 85 dX4_notes_84 rfl ?_
      refine g_iadd K 86 dX4_notes_85 rfl ?_
      refine gm_ast K hK hcl 1 1 115 87 rfl (fun _ => rfl) dX4_notes_86 rfl (fun μ10 _ => ?_)
      exact gm_vret K hK hcl hr hlk dX4_notes_87 rfl
  · exact gm_vret K hK hcl hr hlk dX4_notes_19 rfl
/-- has(II)Z -/
def m_has (μ : Mem) (x1 : Int32) (x2 : Int32) : Option (Bool) :=
  if ((x1 >>> (x2 &&& 31)) &&& (nI 1)) = (nI 1) then
  some true
  else
  some false
theorem wd_has : yX4_has.cls = RX4 ∧ yX4_has.cls ≠ "java/lang/invoke/MethodHandle" ∧ yX4_has.cls ≠ "java/lang/invoke/VarHandle" ∧ (parseMethodDescriptor yX4_has.desc).map (fun d => d.parameters.length) = some 2 := by decide +kernel
set_option maxRecDepth 100000 in
theorem ct_has (μ : Mem) (x1 : Int32) (x2 : Int32) : CtM yX4_has cX4_has 3 (some .boolean) 0 0 [.int x1, .int x2] μ (fun r => (some (.int (bI r)), μ)) (m_has μ x1 x2) := by
  refine CtM.of (by decide) rfl (fun _ => Nat.le_of_ble_eq_true rfl) ?_
  intro l D cl ci cA am p e s m args below meth c hcl K hr hlk hK
  refine g_sub (ls' := [(0, .ref am), (1, .int x1), (2, .int x2)]) [0, 1, 2] rfl ?_
  unfold m_has
  refine g_iloadn K 1 rfl rfl 1 dX4_has_0 rfl ?_
  refine g_iloadn K 2 rfl rfl 2 dX4_has_1 rfl ?_
  refine g_ishr K 3 dX4_has_2 rfl ?_
  refine g_iconst K (nI 1) ic_1 4 dX4_has_3 rfl ?_
  refine g_iand K 5 dX4_has_4 rfl ?_
  refine g_iconst K (nI 1) ic_1 6 dX4_has_5 rfl ?_
  refine g_icmp_ne K 9 13 dX4_has_6 rfl (by decide) (fun _ => ?_) (fun _ => ?_)
  · refine g_iconst K (nI 1) ic_1 10 dX4_has_9 rfl ?_
    refine g_goto K 14 dX4_has_10 (by decide) ?_
    exact gm_zret K hK hcl hr hlk (b := true) dX4_has_14 rfl rfl
  · refine g_iconst K (nI 0) ic_0 14 dX4_has_13 rfl ?_
    exact gm_zret K hK hcl hr hlk (b := false) dX4_has_14 rfl rfl
/-- lodgersGo(II)V -/
def m_lodgersGo (μ : Mem) (x1 : Int32) (x2 : Int32) : Option (Mem) :=
  (m_notes μ (nI 4) x1 x2).bind fun r1 =>
  (rd r1 1 115 ((nI 79) + x1)).bind fun v2 =>
  (wr r1 1 115 ((nI 79) + x1) (nI 0)).bind fun μ3 =>
  if x2 = (-1 : Int32) then
  some μ3
  else
  (rd μ3 1 115 ((nI 79) + x2)).bind fun v4 =>
  (wr μ3 1 115 ((nI 79) + x2) (v4 + v2)).bind fun μ5 =>
  some μ5
theorem wd_lodgersGo : yX4_lodgersGo.cls = RX4 ∧ yX4_lodgersGo.cls ≠ "java/lang/invoke/MethodHandle" ∧ yX4_lodgersGo.cls ≠ "java/lang/invoke/VarHandle" ∧ (parseMethodDescriptor yX4_lodgersGo.desc).map (fun d => d.parameters.length) = some 2 := by decide +kernel
set_option maxRecDepth 100000 in
theorem ct_lodgersGo (μ : Mem) (x1 : Int32) (x2 : Int32) : CtM yX4_lodgersGo cX4_lodgersGo 4 none 1 24 [.int x1, .int x2] μ (fun r => (none, r)) (m_lodgersGo μ x1 x2) := by
  refine CtM.of (by decide) rfl (fun _ => Nat.le_of_ble_eq_true rfl) ?_
  intro l D cl ci cA am p e s m args below meth c hcl K hr hlk hK
  refine g_sub (ls' := [(0, .ref am), (1, .int x1), (2, .int x2)]) [0, 1, 2] rfl ?_
  unfold m_lodgersGo
  refine g_aloadn K 0 rfl rfl 1 dX4_lodgersGo_0 rfl ?_
  refine g_iconst K (nI 4) ic_4 2 dX4_lodgersGo_1 rfl ?_
  refine g_iloadn K 1 rfl rfl 3 dX4_lodgersGo_2 rfl ?_
  refine g_iloadn K 2 rfl rfl 4 dX4_lodgersGo_3 rfl ?_
  refine gm_call K hK hcl 7 (ct_notes μ (nI 4) x1 x2) (lw_V q1923 q1925 qs99 q158 q1926) wd_notes (by decide) rfl (Nat.le_of_ble_eq_true rfl) dX4_lodgersGo_4 rfl (fun r1 _ => ?_)
  refine g_aloadn K 0 rfl rfl 8 dX4_lodgersGo_7 rfl ?_
  refine gm_get K hK hcl 1 11 (by decide) q1486 rfl dX4_lodgersGo_8 rfl ?_
  refine g_bipush K (nI 79) bp_79 13 dX4_lodgersGo_11 rfl ?_
  refine g_iloadn K 1 rfl rfl 14 dX4_lodgersGo_13 rfl ?_
  refine g_iadd K 15 dX4_lodgersGo_14 rfl ?_
  refine gm_ald K hK hcl 1 1 115 16 rfl dX4_lodgersGo_15 rfl (fun v2 _ => ?_)
  refine g_istoren K [(0, .ref am), (1, .int x1), (2, .int x2), (3, .int v2)] [1, 2, 3, 0] rfl (by decide) rfl 17 dX4_lodgersGo_16 rfl ?_
  refine g_aloadn K 0 rfl rfl 18 dX4_lodgersGo_17 rfl ?_
  refine gm_get K hK hcl 1 21 (by decide) q1486 rfl dX4_lodgersGo_18 rfl ?_
  refine g_bipush K (nI 79) bp_79 23 dX4_lodgersGo_21 rfl ?_
  refine g_iloadn K 1 rfl rfl 24 dX4_lodgersGo_23 rfl ?_
  refine g_iadd K 25 dX4_lodgersGo_24 rfl ?_
  refine g_iconst K (nI 0) ic_0 26 dX4_lodgersGo_25 rfl ?_
  refine gm_ast K hK hcl 1 1 115 27 rfl (fun _ => rfl) dX4_lodgersGo_26 rfl (fun μ3 _ => ?_)
  refine g_iloadn K 2 rfl rfl 28 dX4_lodgersGo_27 rfl ?_
  refine g_iconst K (-1 : Int32) ic_m1 29 dX4_lodgersGo_28 rfl ?_
  refine g_icmp_eq K 32 52 dX4_lodgersGo_29 rfl (by decide) (fun _ => ?_) (fun _ => ?_)
  · exact gm_vret K hK hcl hr hlk dX4_lodgersGo_52 rfl
  · refine g_aloadn K 0 rfl rfl 33 dX4_lodgersGo_32 rfl ?_
    refine gm_get K hK hcl 1 36 (by decide) q1486 rfl dX4_lodgersGo_33 rfl ?_
    refine g_bipush K (nI 79) bp_79 38 dX4_lodgersGo_36 rfl ?_
    refine g_iloadn K 2 rfl rfl 39 dX4_lodgersGo_38 rfl ?_
    refine g_iadd K 40 dX4_lodgersGo_39 rfl ?_
    refine g_aloadn K 0 rfl rfl 41 dX4_lodgersGo_40 rfl ?_
    refine gm_get K hK hcl 1 44 (by decide) q1486 rfl dX4_lodgersGo_41 rfl ?_
    refine g_bipush K (nI 79) bp_79 46 dX4_lodgersGo_44 rfl ?_
    refine g_iloadn K 2 rfl rfl 47 dX4_lodgersGo_46 rfl ?_
    refine g_iadd K 48 dX4_lodgersGo_47 rfl ?_
    refine gm_ald K hK hcl 1 1 115 49 rfl dX4_lodgersGo_48 rfl (fun v4 _ => ?_)
    refine g_iloadn K 3 rfl rfl 50 dX4_lodgersGo_49 rfl ?_
    refine g_iadd K 51 dX4_lodgersGo_50 rfl ?_
    refine gm_ast K hK hcl 1 1 115 52 rfl (fun _ => rfl) dX4_lodgersGo_51 rfl (fun μ5 _ => ?_)
    exact gm_vret K hK hcl hr hlk dX4_lodgersGo_52 rfl
/-- areOut(I)V -/
def m_areOut (μ : Mem) (x1 : Int32) : Option (Mem) :=
  (m_doesStand μ x1).bind fun r1 =>
  if (bI r1) = 0 then
  (rd μ 1 115 ((nI 79) + x1)).bind fun v2 =>
  if v2 = 0 then
  some μ
  else
  nm ((μ 6 0) - (nI 1)) fun v3 =>
  jn (fun (j4 : Int32) =>
  (m_lodgersGo μ x1 j4).bind fun r7 =>
  some r7) (fun k5 =>
  lp (fun again9 (j8 : Int32 × Int32) =>
  if j8.2 < 0 then
  k5 j8.1
  else
  (rd μ 38 24 x1).bind fun v11 =>
  (m_has μ v11 j8.2).bind fun r12 =>
  if (bI r12) = 0 then
  again9 (j8.1, (j8.2 + (-1 : Int32)))
  else
  (m_doesStand μ j8.2).bind fun r13 =>
  if (bI r13) = 0 then
  again9 (j8.1, (j8.2 + (-1 : Int32)))
  else
  again9 (j8.2, (j8.2 + (-1 : Int32)))) fuel ((-1 : Int32), v3))
  else
  some μ
theorem wd_areOut : yX4_areOut.cls = RX4 ∧ yX4_areOut.cls ≠ "java/lang/invoke/MethodHandle" ∧ yX4_areOut.cls ≠ "java/lang/invoke/VarHandle" ∧ (parseMethodDescriptor yX4_areOut.desc).map (fun d => d.parameters.length) = some 1 := by decide +kernel
set_option maxRecDepth 100000 in
theorem ct_areOut (μ : Mem) (x1 : Int32) : CtM yX4_areOut cX4_areOut 4 none 3 64 [.int x1] μ (fun r => (none, r)) (m_areOut μ x1) := by
  refine CtM.of (by decide) rfl (fun _ => Nat.le_of_ble_eq_true rfl) ?_
  intro l D cl ci cA am p e s m args below meth c hcl K hr hlk hK
  refine g_sub (ls' := [(0, .ref am), (1, .int x1)]) [0, 1] rfl ?_
  unfold m_areOut
  refine g_aloadn K 0 rfl rfl 1 dX4_areOut_0 rfl ?_
  refine g_iloadn K 1 rfl rfl 2 dX4_areOut_1 rfl ?_
  refine gm_call K hK hcl 5 (ct_doesStand μ x1) (lw_V q1911 q1913 qs96 q158 q1914) wd_doesStand (by decide) rfl (Nat.le_of_ble_eq_true rfl) dX4_areOut_2 rfl (fun r1 _ => ?_)
  refine g_if_ne K 8 20 dX4_areOut_5 rfl (by decide) (fun _ => ?_) (fun _ => ?_)
  · refine g_aloadn K 0 rfl rfl 9 dX4_areOut_8 rfl ?_
    refine gm_get K hK hcl 1 12 (by decide) q1486 rfl dX4_areOut_9 rfl ?_
    refine g_bipush K (nI 79) bp_79 14 dX4_areOut_12 rfl ?_
    refine g_iloadn K 1 rfl rfl 15 dX4_areOut_14 rfl ?_
    refine g_iadd K 16 dX4_areOut_15 rfl ?_
    refine gm_ald K hK hcl 1 1 115 17 rfl dX4_areOut_16 rfl (fun v2 _ => ?_)
    refine g_if_ne K 20 21 dX4_areOut_17 rfl (by decide) (fun _ => ?_) (fun _ => ?_)
    · exact gm_vret K hK hcl hr hlk dX4_areOut_20 rfl
    · refine g_iconst K (-1 : Int32) ic_m1 22 dX4_areOut_21 rfl ?_
      refine g_istoren K [(0, .ref am), (1, .int x1), (2, .int (-1 : Int32))] [1, 2, 0] rfl (by decide) rfl 23 dX4_areOut_22 rfl ?_
      refine g_aloadn K 0 rfl rfl 24 dX4_areOut_23 rfl ?_
      refine gm_get K hK hcl 6 27 (by decide) q1491 rfl dX4_areOut_24 rfl ?_
      refine g_iconst K (nI 1) ic_1 28 dX4_areOut_27 rfl ?_
      refine g_isub K 29 dX4_areOut_28 rfl ?_
      refine g_nm (fun v3 _ => ?_)
      refine g_istoren K [(0, .ref am), (1, .int x1), (2, .int (-1 : Int32)), (3, .int v3)] [1, 2, 3, 0] rfl (by decide) rfl 30 dX4_areOut_29 rfl ?_
      refine g_jn (head := 64) (L := fun j4 => [(0, .ref am), (1, .int x1), (2, .int j4)]) (sf := fun j4 => []) (mf := fun j4 => μ) (fun j4 => ?_) (fun k5 h6 => ?_)
      · try dsimp only
        refine g_aloadn K 0 rfl rfl 65 dX4_areOut_64 rfl ?_
        refine g_iloadn K 1 rfl rfl 66 dX4_areOut_65 rfl ?_
        refine g_iloadn K 2 rfl rfl 67 dX4_areOut_66 rfl ?_
        refine gm_call K hK hcl 70 (ct_lodgersGo μ x1 j4) (lw_V q1935 q1937 qs102 q158 q1938) wd_lodgersGo (by decide) rfl (Nat.le_of_ble_eq_true rfl) dX4_areOut_67 rfl (fun r7 _ => ?_)
        exact gm_vret K hK hcl hr hlk dX4_areOut_70 rfl
      · refine g_lp (head := 30) (L := fun j8 => [(0, .ref am), (1, .int x1), (2, .int j8.1), (3, .int j8.2)]) (sf := fun j8 => []) (mf := fun j8 => μ) (fun again9 h10 j8 => ?_) fuel ((-1 : Int32), v3)
        try dsimp only
        refine g_iloadn K 3 rfl rfl 31 dX4_areOut_30 rfl ?_
        refine g_if_lt K 34 64 dX4_areOut_31 rfl (by decide) (fun _ => ?_) (fun _ => ?_)
        · refine g_sub (ls' := [(0, .ref am), (1, .int x1), (2, .int j8.1)]) [0, 1, 2] rfl ?_
          exact h6 j8.1
        · refine g_aloadn K 0 rfl rfl 35 dX4_areOut_34 rfl ?_
          refine g_aloadn K 0 rfl rfl 36 dX4_areOut_35 rfl ?_
          refine gm_get K hK hcl 38 39 (by decide) q1523 rfl dX4_areOut_36 rfl ?_
          refine g_iloadn K 1 rfl rfl 40 dX4_areOut_39 rfl ?_
          refine gm_ald K hK hcl 38 19 24 41 rfl dX4_areOut_40 rfl (fun v11 _ => ?_)
          refine g_iloadn K 3 rfl rfl 42 dX4_areOut_41 rfl ?_
          refine gm_call K hK hcl 45 (ct_has μ v11 j8.2) (lw_V q1931 q1933 qs101 q158 q1934) wd_has (by decide) rfl (Nat.le_of_ble_eq_true rfl) dX4_areOut_42 rfl (fun r12 _ => ?_)
          refine g_if_eq K 48 58 dX4_areOut_45 rfl (by decide) (fun _ => ?_) (fun _ => ?_)
          · refine g_iinc K (j8.2 + (-1 : Int32)) 3 [(0, .ref am), (1, .int x1), (2, .int j8.1), (3, .int (j8.2 + (-1 : Int32)))] [1, 2, 3, 0] rfl (by rw [ic_m1]) (by decide) rfl 61 dX4_areOut_58 rfl ?_
            refine g_goto K 30 dX4_areOut_61 (by decide) ?_
            exact h10 (j8.1, (j8.2 + (-1 : Int32)))
          · refine g_aloadn K 0 rfl rfl 49 dX4_areOut_48 rfl ?_
            refine g_iloadn K 3 rfl rfl 50 dX4_areOut_49 rfl ?_
            refine gm_call K hK hcl 53 (ct_doesStand μ j8.2) (lw_V q1911 q1913 qs96 q158 q1914) wd_doesStand (by decide) rfl (Nat.le_of_ble_eq_true rfl) dX4_areOut_50 rfl (fun r13 _ => ?_)
            refine g_if_eq K 56 58 dX4_areOut_53 rfl (by decide) (fun _ => ?_) (fun _ => ?_)
            · refine g_iinc K (j8.2 + (-1 : Int32)) 3 [(0, .ref am), (1, .int x1), (2, .int j8.1), (3, .int (j8.2 + (-1 : Int32)))] [1, 2, 3, 0] rfl (by rw [ic_m1]) (by decide) rfl 61 dX4_areOut_58 rfl ?_
              refine g_goto K 30 dX4_areOut_61 (by decide) ?_
              exact h10 (j8.1, (j8.2 + (-1 : Int32)))
            · refine g_iloadn K 3 rfl rfl 57 dX4_areOut_56 rfl ?_
              refine g_istoren K [(0, .ref am), (1, .int x1), (2, .int j8.2), (3, .int j8.2)] [1, 2, 0, 3] rfl (by decide) rfl 58 dX4_areOut_57 rfl ?_
              refine g_iinc K (j8.2 + (-1 : Int32)) 3 [(0, .ref am), (1, .int x1), (2, .int j8.2), (3, .int (j8.2 + (-1 : Int32)))] [1, 2, 3, 0] rfl (by rw [ic_m1]) (by decide) rfl 61 dX4_areOut_58 rfl ?_
              refine g_goto K 30 dX4_areOut_61 (by decide) ?_
              exact h10 (j8.2, (j8.2 + (-1 : Int32)))
  · exact gm_vret K hK hcl hr hlk dX4_areOut_20 rfl
/-- thickest(I)I -/
def m_thickest (μ : Mem) (x1 : Int32) : Option (Int32) :=
  lp (fun again2 (j1 : Int32 × Int32) =>
  if (nI 4) ≤ j1.2 then
  some j1.1
  else
  (m_wallOf μ x1 j1.2).bind fun r4 =>
  (m_wallOf μ x1 j1.1).bind fun r5 =>
  if r4 ≤ r5 then
  again2 (j1.1, (j1.2 + (nI 1)))
  else
  again2 (j1.2, (j1.2 + (nI 1)))) fuel ((nI 0), (nI 1))
theorem wd_thickest : yX4_thickest.cls = RX4 ∧ yX4_thickest.cls ≠ "java/lang/invoke/MethodHandle" ∧ yX4_thickest.cls ≠ "java/lang/invoke/VarHandle" ∧ (parseMethodDescriptor yX4_thickest.desc).map (fun d => d.parameters.length) = some 1 := by decide +kernel
set_option maxRecDepth 100000 in
theorem ct_thickest (μ : Mem) (x1 : Int32) : CtM yX4_thickest cX4_thickest 4 (some .int) 1 22 [.int x1] μ (fun r => (some (.int r), μ)) (m_thickest μ x1) := by
  refine CtM.of (by decide) rfl (fun _ => Nat.le_of_ble_eq_true rfl) ?_
  intro l D cl ci cA am p e s m args below meth c hcl K hr hlk hK
  refine g_sub (ls' := [(0, .ref am), (1, .int x1)]) [0, 1] rfl ?_
  unfold m_thickest
  refine g_iconst K (nI 0) ic_0 1 dX4_thickest_0 rfl ?_
  refine g_istoren K [(0, .ref am), (1, .int x1), (2, .int (nI 0))] [1, 2, 0] rfl (by decide) rfl 2 dX4_thickest_1 rfl ?_
  refine g_iconst K (nI 1) ic_1 3 dX4_thickest_2 rfl ?_
  refine g_istoren K [(0, .ref am), (1, .int x1), (2, .int (nI 0)), (3, .int (nI 1))] [1, 2, 3, 0] rfl (by decide) rfl 4 dX4_thickest_3 rfl ?_
  refine g_lp (head := 4) (L := fun j1 => [(0, .ref am), (1, .int x1), (2, .int j1.1), (3, .int j1.2)]) (sf := fun j1 => []) (mf := fun j1 => μ) (fun again2 h3 j1 => ?_) fuel ((nI 0), (nI 1))
  try dsimp only
  refine g_iloadn K 3 rfl rfl 5 dX4_thickest_4 rfl ?_
  refine g_iconst K (nI 4) ic_4 6 dX4_thickest_5 rfl ?_
  refine g_icmp_ge K 9 32 dX4_thickest_6 rfl (by decide) (fun _ => ?_) (fun _ => ?_)
  · refine g_iloadn K 2 rfl rfl 33 dX4_thickest_32 rfl ?_
    exact gm_iret K hK hcl hr hlk dX4_thickest_33 rfl
  · refine g_aloadn K 0 rfl rfl 10 dX4_thickest_9 rfl ?_
    refine g_iloadn K 1 rfl rfl 11 dX4_thickest_10 rfl ?_
    refine g_iloadn K 3 rfl rfl 12 dX4_thickest_11 rfl ?_
    refine gm_call K hK hcl 15 (ct_wallOf μ x1 j1.2) (lw_V q1903 q1905 qs94 q158 q1906) wd_wallOf (by decide) rfl (Nat.le_of_ble_eq_true rfl) dX4_thickest_12 rfl (fun r4 _ => ?_)
    refine g_aloadn K 0 rfl rfl 16 dX4_thickest_15 rfl ?_
    refine g_iloadn K 1 rfl rfl 17 dX4_thickest_16 rfl ?_
    refine g_iloadn K 2 rfl rfl 18 dX4_thickest_17 rfl ?_
    refine gm_call K hK hcl 21 (ct_wallOf μ x1 j1.1) (lw_V q1903 q1905 qs94 q158 q1906) wd_wallOf (by decide) rfl (Nat.le_of_ble_eq_true rfl) dX4_thickest_18 rfl (fun r5 _ => ?_)
    refine g_icmp_le K 24 26 dX4_thickest_21 rfl (by decide) (fun _ => ?_) (fun _ => ?_)
    · refine g_iinc K (j1.2 + (nI 1)) 3 [(0, .ref am), (1, .int x1), (2, .int j1.1), (3, .int (j1.2 + (nI 1)))] [1, 2, 3, 0] rfl (by rw [ic_1]) (by decide) rfl 29 dX4_thickest_26 rfl ?_
      refine g_goto K 4 dX4_thickest_29 (by decide) ?_
      exact h3 (j1.1, (j1.2 + (nI 1)))
    · refine g_iloadn K 3 rfl rfl 25 dX4_thickest_24 rfl ?_
      refine g_istoren K [(0, .ref am), (1, .int x1), (2, .int j1.2), (3, .int j1.2)] [1, 2, 0, 3] rfl (by decide) rfl 26 dX4_thickest_25 rfl ?_
      refine g_iinc K (j1.2 + (nI 1)) 3 [(0, .ref am), (1, .int x1), (2, .int j1.2), (3, .int (j1.2 + (nI 1)))] [1, 2, 3, 0] rfl (by rw [ic_1]) (by decide) rfl 29 dX4_thickest_26 rfl ?_
      refine g_goto K 4 dX4_thickest_29 (by decide) ?_
      exact h3 (j1.2, (j1.2 + (nI 1)))
/-- isWed(I)V -/
def m_isWed (μ : Mem) (x1 : Int32) : Option (Mem) :=
  (m_thickest μ x1).bind fun r1 =>
  (wr μ 1 115 ((nI 91) + x1) (nI 1)).bind fun μ2 =>
  (m_wallOf μ2 x1 r1).bind fun r3 =>
  (m_hasWall μ2 x1 r1 (r3 - (nI 10))).bind fun r4 =>
  (rd r4 1 115 ((nI 79) + x1)).bind fun v5 =>
  (wr r4 1 115 ((nI 79) + x1) (v5 + (nI 1))).bind fun μ6 =>
  (rd μ6 1 115 ((nI 79) + x1)).bind fun v7 =>
  (m_notes μ6 (nI 5) x1 v7).bind fun r8 =>
  (m_areOut r8 x1).bind fun r9 =>
  some r9
theorem wd_isWed : yX4_isWed.cls = RX4 ∧ yX4_isWed.cls ≠ "java/lang/invoke/MethodHandle" ∧ yX4_isWed.cls ≠ "java/lang/invoke/VarHandle" ∧ (parseMethodDescriptor yX4_isWed.desc).map (fun d => d.parameters.length) = some 1 := by decide +kernel
set_option maxRecDepth 100000 in
theorem ct_isWed (μ : Mem) (x1 : Int32) : CtM yX4_isWed cX4_isWed 3 none 4 87 [.int x1] μ (fun r => (none, r)) (m_isWed μ x1) := by
  refine CtM.of (by decide) rfl (fun _ => Nat.le_of_ble_eq_true rfl) ?_
  intro l D cl ci cA am p e s m args below meth c hcl K hr hlk hK
  refine g_sub (ls' := [(0, .ref am), (1, .int x1)]) [0, 1] rfl ?_
  unfold m_isWed
  refine g_aloadn K 0 rfl rfl 1 dX4_isWed_0 rfl ?_
  refine g_iloadn K 1 rfl rfl 2 dX4_isWed_1 rfl ?_
  refine gm_call K hK hcl 5 (ct_thickest μ x1) (lw_V q1943 q1945 qs104 q158 q1946) wd_thickest (by decide) rfl (Nat.le_of_ble_eq_true rfl) dX4_isWed_2 rfl (fun r1 _ => ?_)
  refine g_istoren K [(0, .ref am), (1, .int x1), (2, .int r1)] [1, 2, 0] rfl (by decide) rfl 6 dX4_isWed_5 rfl ?_
  refine g_aloadn K 0 rfl rfl 7 dX4_isWed_6 rfl ?_
  refine gm_get K hK hcl 1 10 (by decide) q1486 rfl dX4_isWed_7 rfl ?_
  refine g_bipush K (nI 91) bp_91 12 dX4_isWed_10 rfl ?_
  refine g_iloadn K 1 rfl rfl 13 dX4_isWed_12 rfl ?_
  refine g_iadd K 14 dX4_isWed_13 rfl ?_
  refine g_iconst K (nI 1) ic_1 15 dX4_isWed_14 rfl ?_
  refine gm_ast K hK hcl 1 1 115 16 rfl (fun _ => rfl) dX4_isWed_15 rfl (fun μ2 _ => ?_)
  refine g_aloadn K 0 rfl rfl 17 dX4_isWed_16 rfl ?_
  refine g_iloadn K 1 rfl rfl 18 dX4_isWed_17 rfl ?_
  refine g_iloadn K 2 rfl rfl 19 dX4_isWed_18 rfl ?_
  refine g_aloadn K 0 rfl rfl 20 dX4_isWed_19 rfl ?_
  refine g_iloadn K 1 rfl rfl 21 dX4_isWed_20 rfl ?_
  refine g_iloadn K 2 rfl rfl 22 dX4_isWed_21 rfl ?_
  refine gm_call K hK hcl 25 (ct_wallOf μ2 x1 r1) (lw_V q1903 q1905 qs94 q158 q1906) wd_wallOf (by decide) rfl (Nat.le_of_ble_eq_true rfl) dX4_isWed_22 rfl (fun r3 _ => ?_)
  refine g_bipush K (nI 10) bp_10 27 dX4_isWed_25 rfl ?_
  refine g_isub K 28 dX4_isWed_27 rfl ?_
  refine gm_call K hK hcl 31 (ct_hasWall μ2 x1 r1 (r3 - (nI 10))) (lw_V q1739 q1741 qs58 q158 q1742) wd_hasWall (by decide) rfl (Nat.le_of_ble_eq_true rfl) dX4_isWed_28 rfl (fun r4 _ => ?_)
  refine g_aloadn K 0 rfl rfl 32 dX4_isWed_31 rfl ?_
  refine gm_get K hK hcl 1 35 (by decide) q1486 rfl dX4_isWed_32 rfl ?_
  refine g_bipush K (nI 79) bp_79 37 dX4_isWed_35 rfl ?_
  refine g_iloadn K 1 rfl rfl 38 dX4_isWed_37 rfl ?_
  refine g_iadd K 39 dX4_isWed_38 rfl ?_
  refine g_aloadn K 0 rfl rfl 40 dX4_isWed_39 rfl ?_
  refine gm_get K hK hcl 1 43 (by decide) q1486 rfl dX4_isWed_40 rfl ?_
  refine g_bipush K (nI 79) bp_79 45 dX4_isWed_43 rfl ?_
  refine g_iloadn K 1 rfl rfl 46 dX4_isWed_45 rfl ?_
  refine g_iadd K 47 dX4_isWed_46 rfl ?_
  refine gm_ald K hK hcl 1 1 115 48 rfl dX4_isWed_47 rfl (fun v5 _ => ?_)
  refine g_iconst K (nI 1) ic_1 49 dX4_isWed_48 rfl ?_
  refine g_iadd K 50 dX4_isWed_49 rfl ?_
  refine gm_ast K hK hcl 1 1 115 51 rfl (fun _ => rfl) dX4_isWed_50 rfl (fun μ6 _ => ?_)
  refine g_aloadn K 0 rfl rfl 52 dX4_isWed_51 rfl ?_
  refine g_iconst K (nI 5) ic_5 53 dX4_isWed_52 rfl ?_
  refine g_iloadn K 1 rfl rfl 54 dX4_isWed_53 rfl ?_
  refine g_aloadn K 0 rfl rfl 55 dX4_isWed_54 rfl ?_
  refine gm_get K hK hcl 1 58 (by decide) q1486 rfl dX4_isWed_55 rfl ?_
  refine g_bipush K (nI 79) bp_79 60 dX4_isWed_58 rfl ?_
  refine g_iloadn K 1 rfl rfl 61 dX4_isWed_60 rfl ?_
  refine g_iadd K 62 dX4_isWed_61 rfl ?_
  refine gm_ald K hK hcl 1 1 115 63 rfl dX4_isWed_62 rfl (fun v7 _ => ?_)
  refine gm_call K hK hcl 66 (ct_notes μ6 (nI 5) x1 v7) (lw_V q1923 q1925 qs99 q158 q1926) wd_notes (by decide) rfl (Nat.le_of_ble_eq_true rfl) dX4_isWed_63 rfl (fun r8 _ => ?_)
  refine g_aloadn K 0 rfl rfl 67 dX4_isWed_66 rfl ?_
  refine g_iloadn K 1 rfl rfl 68 dX4_isWed_67 rfl ?_
  refine gm_call K hK hcl 71 (ct_areOut r8 x1) (lw_V q1927 q1929 qs100 q158 q1930) wd_areOut (by decide) rfl (Nat.le_of_ble_eq_true rfl) dX4_isWed_68 rfl (fun r9 _ => ?_)
  exact gm_vret K hK hcl hr hlk dX4_isWed_71 rfl
/-- isRazed(I)V -/
def m_isRazed (μ : Mem) (x1 : Int32) : Option (Mem) :=
  jn (fun (j1 : Mem) =>
  (m_areOut j1 x1).bind fun r4 =>
  some r4) (fun k2 =>
  lp (fun again6 (j5 : Int32 × Mem) =>
  if (nI 4) ≤ j5.1 then
  k2 j5.2
  else
  (m_hasWall j5.2 x1 j5.1 (nI 0)).bind fun r8 =>
  again6 ((j5.1 + (nI 1)), r8)) fuel ((nI 0), μ))
theorem wd_isRazed : yX4_isRazed.cls = RX4 ∧ yX4_isRazed.cls ≠ "java/lang/invoke/MethodHandle" ∧ yX4_isRazed.cls ≠ "java/lang/invoke/VarHandle" ∧ (parseMethodDescriptor yX4_isRazed.desc).map (fun d => d.parameters.length) = some 1 := by decide +kernel
set_option maxRecDepth 100000 in
theorem ct_isRazed (μ : Mem) (x1 : Int32) : CtM yX4_isRazed cX4_isRazed 3 none 4 87 [.int x1] μ (fun r => (none, r)) (m_isRazed μ x1) := by
  refine CtM.of (by decide) rfl (fun _ => Nat.le_of_ble_eq_true rfl) ?_
  intro l D cl ci cA am p e s m args below meth c hcl K hr hlk hK
  refine g_sub (ls' := [(0, .ref am), (1, .int x1)]) [0, 1] rfl ?_
  unfold m_isRazed
  refine g_iconst K (nI 0) ic_0 1 dX4_isRazed_0 rfl ?_
  refine g_istoren K [(0, .ref am), (1, .int x1), (2, .int (nI 0))] [1, 2, 0] rfl (by decide) rfl 2 dX4_isRazed_1 rfl ?_
  refine g_jn (head := 20) (L := fun j1 => [(0, .ref am), (1, .int x1)]) (sf := fun j1 => []) (mf := fun j1 => j1) (fun j1 => ?_) (fun k2 h3 => ?_)
  · try dsimp only
    refine g_aloadn K 0 rfl rfl 21 dX4_isRazed_20 rfl ?_
    refine g_iloadn K 1 rfl rfl 22 dX4_isRazed_21 rfl ?_
    refine gm_call K hK hcl 25 (ct_areOut j1 x1) (lw_V q1927 q1929 qs100 q158 q1930) wd_areOut (by decide) rfl (Nat.le_of_ble_eq_true rfl) dX4_isRazed_22 rfl (fun r4 _ => ?_)
    exact gm_vret K hK hcl hr hlk dX4_isRazed_25 rfl
  · refine g_lp (head := 2) (L := fun j5 => [(0, .ref am), (1, .int x1), (2, .int j5.1)]) (sf := fun j5 => []) (mf := fun j5 => j5.2) (fun again6 h7 j5 => ?_) fuel ((nI 0), μ)
    try dsimp only
    refine g_iloadn K 2 rfl rfl 3 dX4_isRazed_2 rfl ?_
    refine g_iconst K (nI 4) ic_4 4 dX4_isRazed_3 rfl ?_
    refine g_icmp_ge K 7 20 dX4_isRazed_4 rfl (by decide) (fun _ => ?_) (fun _ => ?_)
    · refine g_sub (ls' := [(0, .ref am), (1, .int x1)]) [0, 1] rfl ?_
      exact h3 j5.2
    · refine g_aloadn K 0 rfl rfl 8 dX4_isRazed_7 rfl ?_
      refine g_iloadn K 1 rfl rfl 9 dX4_isRazed_8 rfl ?_
      refine g_iloadn K 2 rfl rfl 10 dX4_isRazed_9 rfl ?_
      refine g_iconst K (nI 0) ic_0 11 dX4_isRazed_10 rfl ?_
      refine gm_call K hK hcl 14 (ct_hasWall j5.2 x1 j5.1 (nI 0)) (lw_V q1739 q1741 qs58 q158 q1742) wd_hasWall (by decide) rfl (Nat.le_of_ble_eq_true rfl) dX4_isRazed_11 rfl (fun r8 _ => ?_)
      refine g_iinc K (j5.1 + (nI 1)) 2 [(0, .ref am), (1, .int x1), (2, .int (j5.1 + (nI 1)))] [1, 2, 0] rfl (by rw [ic_1]) (by decide) rfl 17 dX4_isRazed_14 rfl ?_
      refine g_goto K 2 dX4_isRazed_17 (by decide) ?_
      exact h7 ((j5.1 + (nI 1)), r8)
/-- act(III)Z -/
def m_act (μ : Mem) (x1 : Int32) (x2 : Int32) (x3 : Int32) : Option (Bool × Mem) :=
  nm (up2 μ 0 0 (nI 0)) fun μ1 =>
  (m_canAct μ1 x1 x2 x3).bind fun r2 =>
  if (bI r2) = 0 then
  some (false, μ1)
  else
  (m_keepsAhead μ1).bind fun r3 =>
  jn (fun (j4 : Mem) =>
  (m_isIn j4 x1 (nI 10) (nI 13)).bind fun r7 =>
  jn (fun (j8 : Mem) =>
  jn (fun (j11 : Mem) =>
  jn (fun (j14 : Mem) =>
  if x1 = (nI 22) then
  (m_isRazed j14 x2).bind fun r17 =>
  some (true, r17)
  else
  some (true, j14)) (fun k15 =>
  if x1 = (nI 21) then
  (m_lodgersGo j11 x2 x3).bind fun r18 =>
  k15 r18
  else
  k15 j11)) (fun k12 =>
  if x1 = (nI 20) then
  (m_isWed j8 x2).bind fun r19 =>
  k12 r19
  else
  k12 j8)) (fun k9 =>
  if (bI r7) = 0 then
  k9 j4
  else
  (m_wallOf j4 x2 (x1 - (nI 10))).bind fun r20 =>
  (m_hasWall j4 x2 (x1 - (nI 10)) (r20 + x3)).bind fun r21 =>
  k9 r21)) (fun k5 =>
  if (nI 4) ≤ x1 then
  k5 r3
  else
  (m_wallOf r3 x2 x1).bind fun r22 =>
  (m_hasWall r3 x2 x1 (r22 - x3)).bind fun r23 =>
  (rd r23 1 115 (nI 5)).bind fun v24 =>
  (wr r23 1 115 (nI 5) (v24 + x3)).bind fun μ25 =>
  (m_notes μ25 (nI 0) x2 x3).bind fun r26 =>
  (m_areOut r26 x2).bind fun r27 =>
  k5 r27)
theorem wd_act : yX4_act.cls = RX4 ∧ yX4_act.cls ≠ "java/lang/invoke/MethodHandle" ∧ yX4_act.cls ≠ "java/lang/invoke/VarHandle" ∧ (parseMethodDescriptor yX4_act.desc).map (fun d => d.parameters.length) = some 3 := by decide +kernel
set_option maxRecDepth 100000 in
theorem ct_act (μ : Mem) (x1 : Int32) (x2 : Int32) (x3 : Int32) : CtM yX4_act cX4_act 4 (some .boolean) 5 109 [.int x1, .int x2, .int x3] μ (fun r => (some (.int (bI r.1)), r.2)) (m_act μ x1 x2 x3) := by
  refine CtM.of (by decide) rfl (fun _ => Nat.le_of_ble_eq_true rfl) ?_
  intro l D cl ci cA am p e s m args below meth c hcl K hr hlk hK
  refine g_sub (ls' := [(0, .ref am), (1, .int x1), (2, .int x2), (3, .int x3)]) [0, 1, 2, 3] rfl ?_
  unfold m_act
  refine g_aloadn K 0 rfl rfl 1 dX4_act_0 rfl ?_
  refine g_iconst K (nI 0) ic_0 2 dX4_act_1 rfl ?_
  refine gm_put K hK hcl 0 (ty := .int) 5 (by decide) q1485 rfl (by decide +kernel) rfl rfl rfl dX4_act_2 rfl (fun μ1 _ => ?_)
  refine g_aloadn K 0 rfl rfl 6 dX4_act_5 rfl ?_
  refine g_iloadn K 1 rfl rfl 7 dX4_act_6 rfl ?_
  refine g_iloadn K 2 rfl rfl 8 dX4_act_7 rfl ?_
  refine g_iloadn K 3 rfl rfl 9 dX4_act_8 rfl ?_
  refine gm_call K hK hcl 12 (ct_canAct μ1 x1 x2 x3) (lw_V q1899 q1901 qs93 q158 q1902) wd_canAct (by decide) rfl (Nat.le_of_ble_eq_true rfl) dX4_act_9 rfl (fun r2 _ => ?_)
  refine g_if_ne K 15 17 dX4_act_12 rfl (by decide) (fun _ => ?_) (fun _ => ?_)
  · refine g_iconst K (nI 0) ic_0 16 dX4_act_15 rfl ?_
    exact gm_zret K hK hcl hr hlk (b := false) dX4_act_16 rfl rfl
  · refine g_aloadn K 0 rfl rfl 18 dX4_act_17 rfl ?_
    refine gm_call K hK hcl 21 (ct_keepsAhead μ1) (lw_V q1919 q1921 qs98 q158 q1922) wd_keepsAhead (by decide) rfl (Nat.le_of_ble_eq_true rfl) dX4_act_18 rfl (fun r3 _ => ?_)
    refine g_iloadn K 1 rfl rfl 22 dX4_act_21 rfl ?_
    refine g_iconst K (nI 4) ic_4 23 dX4_act_22 rfl ?_
    refine g_jn (head := 66) (L := fun j4 => [(0, .ref am), (1, .int x1), (2, .int x2), (3, .int x3)]) (sf := fun j4 => []) (mf := fun j4 => j4) (fun j4 => ?_) (fun k5 h6 => ?_)
    · try dsimp only
      refine g_aloadn K 0 rfl rfl 67 dX4_act_66 rfl ?_
      refine g_iloadn K 1 rfl rfl 68 dX4_act_67 rfl ?_
      refine g_bipush K (nI 10) bp_10 70 dX4_act_68 rfl ?_
      refine g_bipush K (nI 13) bp_13 72 dX4_act_70 rfl ?_
      refine gm_call K hK hcl 75 (ct_isIn j4 x1 (nI 10) (nI 13)) (lw_V q1723 q1725 qs55 q158 q1726) wd_isIn (by decide) rfl (Nat.le_of_ble_eq_true rfl) dX4_act_72 rfl (fun r7 _ => ?_)
      refine g_jn (head := 98) (L := fun j8 => [(0, .ref am), (1, .int x1), (2, .int x2), (3, .int x3)]) (sf := fun j8 => []) (mf := fun j8 => j8) (fun j8 => ?_) (fun k9 h10 => ?_)
      · try dsimp only
        refine g_iloadn K 1 rfl rfl 99 dX4_act_98 rfl ?_
        refine g_bipush K (nI 20) bp_20 101 dX4_act_99 rfl ?_
        refine g_jn (head := 109) (L := fun j11 => [(0, .ref am), (1, .int x1), (2, .int x2), (3, .int x3)]) (sf := fun j11 => []) (mf := fun j11 => j11) (fun j11 => ?_) (fun k12 h13 => ?_)
        · try dsimp only
          refine g_iloadn K 1 rfl rfl 110 dX4_act_109 rfl ?_
          refine g_bipush K (nI 21) bp_21 112 dX4_act_110 rfl ?_
          refine g_jn (head := 121) (L := fun j14 => [(0, .ref am), (1, .int x1), (2, .int x2)]) (sf := fun j14 => []) (mf := fun j14 => j14) (fun j14 => ?_) (fun k15 h16 => ?_)
          · try dsimp only
            refine g_iloadn K 1 rfl rfl 122 dX4_act_121 rfl ?_
            refine g_bipush K (nI 22) bp_22 124 dX4_act_122 rfl ?_
            refine g_icmp_ne K 127 132 dX4_act_124 rfl (by decide) (fun _ => ?_) (fun _ => ?_)
            · refine g_aloadn K 0 rfl rfl 128 dX4_act_127 rfl ?_
              refine g_iloadn K 2 rfl rfl 129 dX4_act_128 rfl ?_
              refine gm_call K hK hcl 132 (ct_isRazed j14 x2) (lw_V q1947 q1949 qs105 q158 q1950) wd_isRazed (by decide) rfl (Nat.le_of_ble_eq_true rfl) dX4_act_129 rfl (fun r17 _ => ?_)
              refine g_iconst K (nI 1) ic_1 133 dX4_act_132 rfl ?_
              exact gm_zret K hK hcl hr hlk (b := true) dX4_act_133 rfl rfl
            · refine g_iconst K (nI 1) ic_1 133 dX4_act_132 rfl ?_
              exact gm_zret K hK hcl hr hlk (b := true) dX4_act_133 rfl rfl
          · refine g_icmp_ne K 115 121 dX4_act_112 rfl (by decide) (fun _ => ?_) (fun _ => ?_)
            · refine g_aloadn K 0 rfl rfl 116 dX4_act_115 rfl ?_
              refine g_iloadn K 2 rfl rfl 117 dX4_act_116 rfl ?_
              refine g_iloadn K 3 rfl rfl 118 dX4_act_117 rfl ?_
              refine gm_call K hK hcl 121 (ct_lodgersGo j11 x2 x3) (lw_V q1935 q1937 qs102 q158 q1938) wd_lodgersGo (by decide) rfl (Nat.le_of_ble_eq_true rfl) dX4_act_118 rfl (fun r18 _ => ?_)
              refine g_sub (ls' := [(0, .ref am), (1, .int x1), (2, .int x2)]) [0, 1, 2] rfl ?_
              exact h16 r18
            · refine g_sub (ls' := [(0, .ref am), (1, .int x1), (2, .int x2)]) [0, 1, 2] rfl ?_
              exact h16 j11
        · refine g_icmp_ne K 104 109 dX4_act_101 rfl (by decide) (fun _ => ?_) (fun _ => ?_)
          · refine g_aloadn K 0 rfl rfl 105 dX4_act_104 rfl ?_
            refine g_iloadn K 2 rfl rfl 106 dX4_act_105 rfl ?_
            refine gm_call K hK hcl 109 (ct_isWed j8 x2) (lw_V q1939 q1941 qs103 q158 q1942) wd_isWed (by decide) rfl (Nat.le_of_ble_eq_true rfl) dX4_act_106 rfl (fun r19 _ => ?_)
            exact h13 r19
          · exact h13 j8
      · refine g_if_eq K 78 98 dX4_act_75 rfl (by decide) (fun _ => ?_) (fun _ => ?_)
        · exact h10 j4
        · refine g_aloadn K 0 rfl rfl 79 dX4_act_78 rfl ?_
          refine g_iloadn K 2 rfl rfl 80 dX4_act_79 rfl ?_
          refine g_iloadn K 1 rfl rfl 81 dX4_act_80 rfl ?_
          refine g_bipush K (nI 10) bp_10 83 dX4_act_81 rfl ?_
          refine g_isub K 84 dX4_act_83 rfl ?_
          refine g_aloadn K 0 rfl rfl 85 dX4_act_84 rfl ?_
          refine g_iloadn K 2 rfl rfl 86 dX4_act_85 rfl ?_
          refine g_iloadn K 1 rfl rfl 87 dX4_act_86 rfl ?_
          refine g_bipush K (nI 10) bp_10 89 dX4_act_87 rfl ?_
          refine g_isub K 90 dX4_act_89 rfl ?_
          refine gm_call K hK hcl 93 (ct_wallOf j4 x2 (x1 - (nI 10))) (lw_V q1903 q1905 qs94 q158 q1906) wd_wallOf (by decide) rfl (Nat.le_of_ble_eq_true rfl) dX4_act_90 rfl (fun r20 _ => ?_)
          refine g_iloadn K 3 rfl rfl 94 dX4_act_93 rfl ?_
          refine g_iadd K 95 dX4_act_94 rfl ?_
          refine gm_call K hK hcl 98 (ct_hasWall j4 x2 (x1 - (nI 10)) (r20 + x3)) (lw_V q1739 q1741 qs58 q158 q1742) wd_hasWall (by decide) rfl (Nat.le_of_ble_eq_true rfl) dX4_act_95 rfl (fun r21 _ => ?_)
          exact h10 r21
    · refine g_icmp_ge K 26 66 dX4_act_23 rfl (by decide) (fun _ => ?_) (fun _ => ?_)
      · exact h6 r3
      · refine g_aloadn K 0 rfl rfl 27 dX4_act_26 rfl ?_
        refine g_iloadn K 2 rfl rfl 28 dX4_act_27 rfl ?_
        refine g_iloadn K 1 rfl rfl 29 dX4_act_28 rfl ?_
        refine g_aloadn K 0 rfl rfl 30 dX4_act_29 rfl ?_
        refine g_iloadn K 2 rfl rfl 31 dX4_act_30 rfl ?_
        refine g_iloadn K 1 rfl rfl 32 dX4_act_31 rfl ?_
        refine gm_call K hK hcl 35 (ct_wallOf r3 x2 x1) (lw_V q1903 q1905 qs94 q158 q1906) wd_wallOf (by decide) rfl (Nat.le_of_ble_eq_true rfl) dX4_act_32 rfl (fun r22 _ => ?_)
        refine g_iloadn K 3 rfl rfl 36 dX4_act_35 rfl ?_
        refine g_isub K 37 dX4_act_36 rfl ?_
        refine gm_call K hK hcl 40 (ct_hasWall r3 x2 x1 (r22 - x3)) (lw_V q1739 q1741 qs58 q158 q1742) wd_hasWall (by decide) rfl (Nat.le_of_ble_eq_true rfl) dX4_act_37 rfl (fun r23 _ => ?_)
        refine g_aloadn K 0 rfl rfl 41 dX4_act_40 rfl ?_
        refine gm_get K hK hcl 1 44 (by decide) q1486 rfl dX4_act_41 rfl ?_
        refine g_iconst K (nI 5) ic_5 45 dX4_act_44 rfl ?_
        refine g_aloadn K 0 rfl rfl 46 dX4_act_45 rfl ?_
        refine gm_get K hK hcl 1 49 (by decide) q1486 rfl dX4_act_46 rfl ?_
        refine g_iconst K (nI 5) ic_5 50 dX4_act_49 rfl ?_
        refine gm_ald K hK hcl 1 1 115 51 rfl dX4_act_50 rfl (fun v24 _ => ?_)
        refine g_iloadn K 3 rfl rfl 52 dX4_act_51 rfl ?_
        refine g_iadd K 53 dX4_act_52 rfl ?_
        refine gm_ast K hK hcl 1 1 115 54 rfl (fun _ => rfl) dX4_act_53 rfl (fun μ25 _ => ?_)
        refine g_aloadn K 0 rfl rfl 55 dX4_act_54 rfl ?_
        refine g_iconst K (nI 0) ic_0 56 dX4_act_55 rfl ?_
        refine g_iloadn K 2 rfl rfl 57 dX4_act_56 rfl ?_
        refine g_iloadn K 3 rfl rfl 58 dX4_act_57 rfl ?_
        refine gm_call K hK hcl 61 (ct_notes μ25 (nI 0) x2 x3) (lw_V q1923 q1925 qs99 q158 q1926) wd_notes (by decide) rfl (Nat.le_of_ble_eq_true rfl) dX4_act_58 rfl (fun r26 _ => ?_)
        refine g_aloadn K 0 rfl rfl 62 dX4_act_61 rfl ?_
        refine g_iloadn K 2 rfl rfl 63 dX4_act_62 rfl ?_
        refine gm_call K hK hcl 66 (ct_areOut r26 x2) (lw_V q1927 q1929 qs100 q158 q1930) wd_areOut (by decide) rfl (Nat.le_of_ble_eq_true rfl) dX4_act_63 rfl (fun r27 _ => ?_)
        exact h6 r27
