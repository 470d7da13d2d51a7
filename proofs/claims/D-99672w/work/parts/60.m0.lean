/-- undo()Z -/
def m_undo (μ : Mem) : Option (Bool × Mem) :=
  nm (up2 μ 0 0 (nI 0)) fun μ1 =>
  if (μ1 3 0) = 0 then
  some (false, μ1)
  else
  nm (up2 μ1 3 0 ((μ1 3 0) - (nI 1))) fun μ2 =>
  lp (fun again4 (j3 : Int32 × Mem) =>
  if (nI 115) ≤ j3.1 then
  some (true, j3.2)
  else
  (rd j3.2 2 690 (((nI 115) * (j3.2 3 0)) + j3.1)).bind fun v6 =>
  (wr j3.2 1 115 j3.1 v6).bind fun μ7 =>
  again4 ((j3.1 + (nI 1)), μ7)) fuel ((nI 0), μ2)
theorem wd_undo : yX4_undo.cls = RX4 ∧ yX4_undo.cls ≠ "java/lang/invoke/MethodHandle" ∧ yX4_undo.cls ≠ "java/lang/invoke/VarHandle" ∧ (parseMethodDescriptor yX4_undo.desc).map (fun d => d.parameters.length) = some 0 := by decide +kernel
set_option maxRecDepth 100000 in
theorem ct_undo (μ : Mem) : CtM yX4_undo cX4_undo 2 (some .boolean) 0 0 [] μ (fun r => (some (.int (bI r.1)), r.2)) (m_undo μ) := by
  refine CtM.of (by decide) rfl (fun _ => Nat.le_of_ble_eq_true rfl) ?_
  intro l D cl ci cA am p e s m args below meth c hcl K hr hlk hK
  refine g_sub (ls' := [(0, .ref am)]) [0] rfl ?_
  unfold m_undo
  refine g_aloadn K 0 rfl rfl 1 dX4_undo_0 rfl ?_
  refine g_iconst K (nI 0) ic_0 2 dX4_undo_1 rfl ?_
  refine gm_put K hK hcl 0 (ty := .int) 5 (by decide) q1485 rfl (by decide +kernel) rfl rfl rfl dX4_undo_2 rfl (fun μ1 _ => ?_)
  refine g_aloadn K 0 rfl rfl 6 dX4_undo_5 rfl ?_
  refine gm_get K hK hcl 3 9 (by decide) q1488 rfl dX4_undo_6 rfl ?_
  refine g_if_ne K 12 14 dX4_undo_9 rfl (by decide) (fun _ => ?_) (fun _ => ?_)
  · refine g_iconst K (nI 0) ic_0 13 dX4_undo_12 rfl ?_
    exact gm_zret K hK hcl hr hlk (b := false) dX4_undo_13 rfl rfl
  · refine g_aloadn K 0 rfl rfl 15 dX4_undo_14 rfl ?_
    refine g_aloadn K 0 rfl rfl 16 dX4_undo_15 rfl ?_
    refine gm_get K hK hcl 3 19 (by decide) q1488 rfl dX4_undo_16 rfl ?_
    refine g_iconst K (nI 1) ic_1 20 dX4_undo_19 rfl ?_
    refine g_isub K 21 dX4_undo_20 rfl ?_
    refine gm_put K hK hcl 3 (ty := .int) 24 (by decide) q1488 rfl (by decide +kernel) rfl rfl rfl dX4_undo_21 rfl (fun μ2 _ => ?_)
    refine g_iconst K (nI 0) ic_0 25 dX4_undo_24 rfl ?_
    refine g_istoren K [(0, .ref am), (1, .int (nI 0))] [1, 0] rfl (by decide) rfl 26 dX4_undo_25 rfl ?_
    refine g_lp (head := 26) (L := fun j3 => [(0, .ref am), (1, .int j3.1)]) (sf := fun j3 => []) (mf := fun j3 => j3.2) (fun again4 h5 j3 => ?_) fuel ((nI 0), μ2)
    try dsimp only
    refine g_iloadn K 1 rfl rfl 27 dX4_undo_26 rfl ?_
    refine g_bipush K (nI 115) bp_115 29 dX4_undo_27 rfl ?_
    refine g_icmp_ge K 32 58 dX4_undo_29 rfl (by decide) (fun _ => ?_) (fun _ => ?_)
    · refine g_iconst K (nI 1) ic_1 59 dX4_undo_58 rfl ?_
      exact gm_zret K hK hcl hr hlk (b := true) dX4_undo_59 rfl rfl
    · refine g_aloadn K 0 rfl rfl 33 dX4_undo_32 rfl ?_
      refine gm_get K hK hcl 1 36 (by decide) q1486 rfl dX4_undo_33 rfl ?_
      refine g_iloadn K 1 rfl rfl 37 dX4_undo_36 rfl ?_
      refine g_aloadn K 0 rfl rfl 38 dX4_undo_37 rfl ?_
      refine gm_get K hK hcl 2 41 (by decide) q1487 rfl dX4_undo_38 rfl ?_
      refine g_bipush K (nI 115) bp_115 43 dX4_undo_41 rfl ?_
      refine g_aloadn K 0 rfl rfl 44 dX4_undo_43 rfl ?_
      refine gm_get K hK hcl 3 47 (by decide) q1488 rfl dX4_undo_44 rfl ?_
      refine g_imul K 48 dX4_undo_47 rfl ?_
      refine g_iloadn K 1 rfl rfl 49 dX4_undo_48 rfl ?_
      refine g_iadd K 50 dX4_undo_49 rfl ?_
      refine gm_ald K hK hcl 2 2 690 51 rfl dX4_undo_50 rfl (fun v6 _ => ?_)
      refine gm_ast K hK hcl 1 1 115 52 rfl (fun _ => rfl) dX4_undo_51 rfl (fun μ7 _ => ?_)
      refine g_iinc K (j3.1 + (nI 1)) 1 [(0, .ref am), (1, .int (j3.1 + (nI 1)))] [1, 0] rfl (by rw [ic_1]) (by decide) rfl 55 dX4_undo_52 rfl ?_
      refine g_goto K 26 dX4_undo_55 (by decide) ?_
      exact h5 ((j3.1 + (nI 1)), μ7)
/-- state(I)I -/
def m_state (μ : Mem) (x1 : Int32) : Option (Int32 × Mem) :=
  nm (up2 μ 0 0 (nI 0)) fun μ1 =>
  (rd μ1 1 115 (nI 1)).bind fun v2 =>
  (wr μ1 1 115 (nI 1) x1).bind fun μ3 =>
  nm (up2 μ3 3 0 (nI 0)) fun μ4 =>
  some (v2, μ4)
theorem wd_state : yX4_state.cls = RX4 ∧ yX4_state.cls ≠ "java/lang/invoke/MethodHandle" ∧ yX4_state.cls ≠ "java/lang/invoke/VarHandle" ∧ (parseMethodDescriptor yX4_state.desc).map (fun d => d.parameters.length) = some 1 := by decide +kernel
set_option maxRecDepth 100000 in
theorem ct_state (μ : Mem) (x1 : Int32) : CtM yX4_state cX4_state 3 (some .int) 0 0 [.int x1] μ (fun r => (some (.int r.1), r.2)) (m_state μ x1) := by
  refine CtM.of (by decide) rfl (fun _ => Nat.le_of_ble_eq_true rfl) ?_
  intro l D cl ci cA am p e s m args below meth c hcl K hr hlk hK
  refine g_sub (ls' := [(0, .ref am), (1, .int x1)]) [0, 1] rfl ?_
  unfold m_state
  refine g_aloadn K 0 rfl rfl 1 dX4_state_0 rfl ?_
  refine g_iconst K (nI 0) ic_0 2 dX4_state_1 rfl ?_
  refine gm_put K hK hcl 0 (ty := .int) 5 (by decide) q1485 rfl (by decide +kernel) rfl rfl rfl dX4_state_2 rfl (fun μ1 _ => ?_)
  refine g_aloadn K 0 rfl rfl 6 dX4_state_5 rfl ?_
  refine gm_get K hK hcl 1 9 (by decide) q1486 rfl dX4_state_6 rfl ?_
  refine g_iconst K (nI 1) ic_1 10 dX4_state_9 rfl ?_
  refine gm_ald K hK hcl 1 1 115 11 rfl dX4_state_10 rfl (fun v2 _ => ?_)
  refine g_istoren K [(0, .ref am), (1, .int x1), (2, .int v2)] [1, 2, 0] rfl (by decide) rfl 12 dX4_state_11 rfl ?_
  refine g_aloadn K 0 rfl rfl 13 dX4_state_12 rfl ?_
  refine gm_get K hK hcl 1 16 (by decide) q1486 rfl dX4_state_13 rfl ?_
  refine g_iconst K (nI 1) ic_1 17 dX4_state_16 rfl ?_
  refine g_iloadn K 1 rfl rfl 18 dX4_state_17 rfl ?_
  refine gm_ast K hK hcl 1 1 115 19 rfl (fun _ => rfl) dX4_state_18 rfl (fun μ3 _ => ?_)
  refine g_aloadn K 0 rfl rfl 20 dX4_state_19 rfl ?_
  refine g_iconst K (nI 0) ic_0 21 dX4_state_20 rfl ?_
  refine gm_put K hK hcl 3 (ty := .int) 24 (by decide) q1488 rfl (by decide +kernel) rfl rfl rfl dX4_state_21 rfl (fun μ4 _ => ?_)
  refine g_iloadn K 2 rfl rfl 25 dX4_state_24 rfl ?_
  exact gm_iret K hK hcl hr hlk dX4_state_25 rfl
/-- isIn(III)Z -/
def m_isIn (μ : Mem) (x1 : Int32) (x2 : Int32) (x3 : Int32) : Option (Bool) :=
  if x1 < x2 then
  some false
  else
  if x3 < x1 then
  some false
  else
  some true
theorem wd_isIn : yX4_isIn.cls = RX4 ∧ yX4_isIn.cls ≠ "java/lang/invoke/MethodHandle" ∧ yX4_isIn.cls ≠ "java/lang/invoke/VarHandle" ∧ (parseMethodDescriptor yX4_isIn.desc).map (fun d => d.parameters.length) = some 3 := by decide +kernel
set_option maxRecDepth 100000 in
theorem ct_isIn (μ : Mem) (x1 : Int32) (x2 : Int32) (x3 : Int32) : CtM yX4_isIn cX4_isIn 4 (some .boolean) 0 0 [.int x1, .int x2, .int x3] μ (fun r => (some (.int (bI r)), μ)) (m_isIn μ x1 x2 x3) := by
  refine CtM.of (by decide) rfl (fun _ => Nat.le_of_ble_eq_true rfl) ?_
  intro l D cl ci cA am p e s m args below meth c hcl K hr hlk hK
  refine g_sub (ls' := [(0, .ref am), (1, .int x1), (2, .int x2), (3, .int x3)]) [0, 1, 2, 3] rfl ?_
  unfold m_isIn
  refine g_iloadn K 1 rfl rfl 1 dX4_isIn_0 rfl ?_
  refine g_iloadn K 2 rfl rfl 2 dX4_isIn_1 rfl ?_
  refine g_icmp_lt K 5 14 dX4_isIn_2 rfl (by decide) (fun _ => ?_) (fun _ => ?_)
  · refine g_iconst K (nI 0) ic_0 15 dX4_isIn_14 rfl ?_
    exact gm_zret K hK hcl hr hlk (b := false) dX4_isIn_15 rfl rfl
  · refine g_iloadn K 1 rfl rfl 6 dX4_isIn_5 rfl ?_
    refine g_iloadn K 3 rfl rfl 7 dX4_isIn_6 rfl ?_
    refine g_icmp_gt K 10 14 dX4_isIn_7 rfl (by decide) (fun _ => ?_) (fun _ => ?_)
    · refine g_iconst K (nI 0) ic_0 15 dX4_isIn_14 rfl ?_
      exact gm_zret K hK hcl hr hlk (b := false) dX4_isIn_15 rfl rfl
    · refine g_iconst K (nI 1) ic_1 11 dX4_isIn_10 rfl ?_
      refine g_goto K 15 dX4_isIn_11 (by decide) ?_
      exact gm_zret K hK hcl hr hlk (b := true) dX4_isIn_15 rfl rfl
/-- house(III)I -/
def m_house (μ : Mem) (x1 : Int32) (x2 : Int32) (x3 : Int32) : Option (Int32 × Mem) :=
  nm (up2 μ 0 0 (nI 0)) fun μ1 =>
  (m_isIn μ1 x1 (nI 0) (nI 99)).bind fun r2 =>
  if (bI r2) = 0 then
  some ((-1 : Int32), μ1)
  else
  (m_isIn μ1 x2 (nI 0) (nI 9)).bind fun r3 =>
  if (bI r3) = 0 then
  some ((-1 : Int32), μ1)
  else
  (m_isIn μ1 x3 (nI 0) (nI 9)).bind fun r4 =>
  if (bI r4) = 0 then
  some ((-1 : Int32), μ1)
  else
  if (μ1 6 0) = (nI 12) then
  some ((-1 : Int32), μ1)
  else
  jn (fun (j5 : Mem) =>
  (wr j5 1 115 ((nI 55) + (j5 6 0)) (nI 0)).bind fun μ8 =>
  (wr μ8 1 115 ((nI 67) + (μ8 6 0)) (nI 0)).bind fun μ9 =>
  (wr μ9 1 115 ((nI 79) + (μ9 6 0)) (nI 1)).bind fun μ10 =>
  (wr μ10 1 115 ((nI 91) + (μ10 6 0)) (nI 0)).bind fun μ11 =>
  (wr μ11 1 115 ((nI 103) + (μ11 6 0)) (nI 0)).bind fun μ12 =>
  (wr μ12 7 12 (μ12 6 0) x2).bind fun μ13 =>
  (wr μ13 8 12 (μ13 6 0) x3).bind fun μ14 =>
  nm (up2 μ14 6 0 ((μ14 6 0) + (nI 1))) fun μ15 =>
  nm (up2 μ15 3 0 (nI 0)) fun μ16 =>
  some (((μ16 6 0) - (nI 1)), μ16)) (fun k6 =>
  lp (fun again18 (j17 : Int32 × Mem) =>
  if (nI 4) ≤ j17.1 then
  k6 j17.2
  else
  (wr j17.2 1 115 (((nI 7) + ((nI 4) * (j17.2 6 0))) + j17.1) x1).bind fun μ20 =>
  again18 ((j17.1 + (nI 1)), μ20)) fuel ((nI 0), μ1))
theorem wd_house : yX4_house.cls = RX4 ∧ yX4_house.cls ≠ "java/lang/invoke/MethodHandle" ∧ yX4_house.cls ≠ "java/lang/invoke/VarHandle" ∧ (parseMethodDescriptor yX4_house.desc).map (fun d => d.parameters.length) = some 3 := by decide +kernel
set_option maxRecDepth 100000 in
theorem ct_house (μ : Mem) (x1 : Int32) (x2 : Int32) (x3 : Int32) : CtM yX4_house cX4_house 5 (some .int) 1 23 [.int x1, .int x2, .int x3] μ (fun r => (some (.int r.1), r.2)) (m_house μ x1 x2 x3) := by
  refine CtM.of (by decide) rfl (fun _ => Nat.le_of_ble_eq_true rfl) ?_
  intro l D cl ci cA am p e s m args below meth c hcl K hr hlk hK
  refine g_sub (ls' := [(0, .ref am), (1, .int x1), (2, .int x2), (3, .int x3)]) [0, 1, 2, 3] rfl ?_
  unfold m_house
  refine g_aloadn K 0 rfl rfl 1 dX4_house_0 rfl ?_
  refine g_iconst K (nI 0) ic_0 2 dX4_house_1 rfl ?_
  refine gm_put K hK hcl 0 (ty := .int) 5 (by decide) q1485 rfl (by decide +kernel) rfl rfl rfl dX4_house_2 rfl (fun μ1 _ => ?_)
  refine g_aloadn K 0 rfl rfl 6 dX4_house_5 rfl ?_
  refine g_iloadn K 1 rfl rfl 7 dX4_house_6 rfl ?_
  refine g_iconst K (nI 0) ic_0 8 dX4_house_7 rfl ?_
  refine g_bipush K (nI 99) bp_99 10 dX4_house_8 rfl ?_
  refine gm_call K hK hcl 13 (ct_isIn μ1 x1 (nI 0) (nI 99)) (lw_V q1723 q1725 qs55 q158 q1726) wd_isIn (by decide) rfl (Nat.le_of_ble_eq_true rfl) dX4_house_10 rfl (fun r2 _ => ?_)
  refine g_if_eq K 16 47 dX4_house_13 rfl (by decide) (fun _ => ?_) (fun _ => ?_)
  · refine g_iconst K (-1 : Int32) ic_m1 48 dX4_house_47 rfl ?_
    exact gm_iret K hK hcl hr hlk dX4_house_48 rfl
  · refine g_aloadn K 0 rfl rfl 17 dX4_house_16 rfl ?_
    refine g_iloadn K 2 rfl rfl 18 dX4_house_17 rfl ?_
    refine g_iconst K (nI 0) ic_0 19 dX4_house_18 rfl ?_
    refine g_bipush K (nI 9) bp_9 21 dX4_house_19 rfl ?_
    refine gm_call K hK hcl 24 (ct_isIn μ1 x2 (nI 0) (nI 9)) (lw_V q1723 q1725 qs55 q158 q1726) wd_isIn (by decide) rfl (Nat.le_of_ble_eq_true rfl) dX4_house_21 rfl (fun r3 _ => ?_)
    refine g_if_eq K 27 47 dX4_house_24 rfl (by decide) (fun _ => ?_) (fun _ => ?_)
    · refine g_iconst K (-1 : Int32) ic_m1 48 dX4_house_47 rfl ?_
      exact gm_iret K hK hcl hr hlk dX4_house_48 rfl
    · refine g_aloadn K 0 rfl rfl 28 dX4_house_27 rfl ?_
      refine g_iloadn K 3 rfl rfl 29 dX4_house_28 rfl ?_
      refine g_iconst K (nI 0) ic_0 30 dX4_house_29 rfl ?_
      refine g_bipush K (nI 9) bp_9 32 dX4_house_30 rfl ?_
      refine gm_call K hK hcl 35 (ct_isIn μ1 x3 (nI 0) (nI 9)) (lw_V q1723 q1725 qs55 q158 q1726) wd_isIn (by decide) rfl (Nat.le_of_ble_eq_true rfl) dX4_house_32 rfl (fun r4 _ => ?_)
      refine g_if_eq K 38 47 dX4_house_35 rfl (by decide) (fun _ => ?_) (fun _ => ?_)
      · refine g_iconst K (-1 : Int32) ic_m1 48 dX4_house_47 rfl ?_
        exact gm_iret K hK hcl hr hlk dX4_house_48 rfl
      · refine g_aloadn K 0 rfl rfl 39 dX4_house_38 rfl ?_
        refine gm_get K hK hcl 6 42 (by decide) q1491 rfl dX4_house_39 rfl ?_
        refine g_bipush K (nI 12) bp_12 44 dX4_house_42 rfl ?_
        refine g_icmp_ne K 47 49 dX4_house_44 rfl (by decide) (fun _ => ?_) (fun _ => ?_)
        · refine g_iconst K (-1 : Int32) ic_m1 48 dX4_house_47 rfl ?_
          exact gm_iret K hK hcl hr hlk dX4_house_48 rfl
        · refine g_iconst K (nI 0) ic_0 50 dX4_house_49 rfl ?_
          refine g_istore K [(0, .ref am), (1, .int x1), (2, .int x2), (3, .int x3), (4, .int (nI 0))] [1, 2, 3, 4, 0] (by decide) rfl 52 dX4_house_50 rfl ?_
          refine g_jn (head := 82) (L := fun j5 => [(0, .ref am), (2, .int x2), (3, .int x3)]) (sf := fun j5 => []) (mf := fun j5 => j5) (fun j5 => ?_) (fun k6 h7 => ?_)
          · try dsimp only
            refine g_aloadn K 0 rfl rfl 83 dX4_house_82 rfl ?_
            refine gm_get K hK hcl 1 86 (by decide) q1486 rfl dX4_house_83 rfl ?_
            refine g_bipush K (nI 55) bp_55 88 dX4_house_86 rfl ?_
            refine g_aloadn K 0 rfl rfl 89 dX4_house_88 rfl ?_
            refine gm_get K hK hcl 6 92 (by decide) q1491 rfl dX4_house_89 rfl ?_
            refine g_iadd K 93 dX4_house_92 rfl ?_
            refine g_iconst K (nI 0) ic_0 94 dX4_house_93 rfl ?_
            refine gm_ast K hK hcl 1 1 115 95 rfl (fun _ => rfl) dX4_house_94 rfl (fun μ8 _ => ?_)
            refine g_aloadn K 0 rfl rfl 96 dX4_house_95 rfl ?_
            refine gm_get K hK hcl 1 99 (by decide) q1486 rfl dX4_house_96 rfl ?_
            refine g_bipush K (nI 67) bp_67 101 dX4_house_99 rfl ?_
            refine g_aloadn K 0 rfl rfl 102 dX4_house_101 rfl ?_
            refine gm_get K hK hcl 6 105 (by decide) q1491 rfl dX4_house_102 rfl ?_
            refine g_iadd K 106 dX4_house_105 rfl ?_
            refine g_iconst K (nI 0) ic_0 107 dX4_house_106 rfl ?_
            refine gm_ast K hK hcl 1 1 115 108 rfl (fun _ => rfl) dX4_house_107 rfl (fun μ9 _ => ?_)
            refine g_aloadn K 0 rfl rfl 109 dX4_house_108 rfl ?_
            refine gm_get K hK hcl 1 112 (by decide) q1486 rfl dX4_house_109 rfl ?_
            refine g_bipush K (nI 79) bp_79 114 dX4_house_112 rfl ?_
            refine g_aloadn K 0 rfl rfl 115 dX4_house_114 rfl ?_
            refine gm_get K hK hcl 6 118 (by decide) q1491 rfl dX4_house_115 rfl ?_
            refine g_iadd K 119 dX4_house_118 rfl ?_
            refine g_iconst K (nI 1) ic_1 120 dX4_house_119 rfl ?_
            refine gm_ast K hK hcl 1 1 115 121 rfl (fun _ => rfl) dX4_house_120 rfl (fun μ10 _ => ?_)
            refine g_aloadn K 0 rfl rfl 122 dX4_house_121 rfl ?_
            refine gm_get K hK hcl 1 125 (by decide) q1486 rfl dX4_house_122 rfl ?_
            refine g_bipush K (nI 91) bp_91 127 dX4_house_125 rfl ?_
            refine g_aloadn K 0 rfl rfl 128 dX4_house_127 rfl ?_
            refine gm_get K hK hcl 6 131 (by decide) q1491 rfl dX4_house_128 rfl ?_
            refine g_iadd K 132 dX4_house_131 rfl ?_
            refine g_iconst K (nI 0) ic_0 133 dX4_house_132 rfl ?_
            refine gm_ast K hK hcl 1 1 115 134 rfl (fun _ => rfl) dX4_house_133 rfl (fun μ11 _ => ?_)
            refine g_aloadn K 0 rfl rfl 135 dX4_house_134 rfl ?_
            refine gm_get K hK hcl 1 138 (by decide) q1486 rfl dX4_house_135 rfl ?_
            refine g_bipush K (nI 103) bp_103 140 dX4_house_138 rfl ?_
            refine g_aloadn K 0 rfl rfl 141 dX4_house_140 rfl ?_
            refine gm_get K hK hcl 6 144 (by decide) q1491 rfl dX4_house_141 rfl ?_
            refine g_iadd K 145 dX4_house_144 rfl ?_
            refine g_iconst K (nI 0) ic_0 146 dX4_house_145 rfl ?_
            refine gm_ast K hK hcl 1 1 115 147 rfl (fun _ => rfl) dX4_house_146 rfl (fun μ12 _ => ?_)
            refine g_aloadn K 0 rfl rfl 148 dX4_house_147 rfl ?_
            refine gm_get K hK hcl 7 151 (by decide) q1492 rfl dX4_house_148 rfl ?_
            refine g_aloadn K 0 rfl rfl 152 dX4_house_151 rfl ?_
            refine gm_get K hK hcl 6 155 (by decide) q1491 rfl dX4_house_152 rfl ?_
            refine g_iloadn K 1 rfl rfl 156 dX4_house_155 rfl ?_
            refine gm_ast K hK hcl 7 4 12 157 rfl (fun _ => rfl) dX4_house_156 rfl (fun μ13 _ => ?_)
            refine g_aloadn K 0 rfl rfl 158 dX4_house_157 rfl ?_
            refine gm_get K hK hcl 8 161 (by decide) q1493 rfl dX4_house_158 rfl ?_
            refine g_aloadn K 0 rfl rfl 162 dX4_house_161 rfl ?_
            refine gm_get K hK hcl 6 165 (by decide) q1491 rfl dX4_house_162 rfl ?_
            refine g_iloadn K 2 rfl rfl 166 dX4_house_165 rfl ?_
            refine gm_ast K hK hcl 8 5 12 167 rfl (fun _ => rfl) dX4_house_166 rfl (fun μ14 _ => ?_)
            refine g_aloadn K 0 rfl rfl 168 dX4_house_167 rfl ?_
            refine g_aloadn K 0 rfl rfl 169 dX4_house_168 rfl ?_
            refine gm_get K hK hcl 6 172 (by decide) q1491 rfl dX4_house_169 rfl ?_
            refine g_iconst K (nI 1) ic_1 173 dX4_house_172 rfl ?_
            refine g_iadd K 174 dX4_house_173 rfl ?_
            refine gm_put K hK hcl 6 (ty := .int) 177 (by decide) q1491 rfl (by decide +kernel) rfl rfl rfl dX4_house_174 rfl (fun μ15 _ => ?_)
            refine g_aloadn K 0 rfl rfl 178 dX4_house_177 rfl ?_
            refine g_iconst K (nI 0) ic_0 179 dX4_house_178 rfl ?_
            refine gm_put K hK hcl 3 (ty := .int) 182 (by decide) q1488 rfl (by decide +kernel) rfl rfl rfl dX4_house_179 rfl (fun μ16 _ => ?_)
            refine g_aloadn K 0 rfl rfl 183 dX4_house_182 rfl ?_
            refine gm_get K hK hcl 6 186 (by decide) q1491 rfl dX4_house_183 rfl ?_
            refine g_iconst K (nI 1) ic_1 187 dX4_house_186 rfl ?_
            refine g_isub K 188 dX4_house_187 rfl ?_
            exact gm_iret K hK hcl hr hlk dX4_house_188 rfl
          · refine g_lp (head := 52) (L := fun j17 => [(0, .ref am), (1, .int x1), (2, .int x2), (3, .int x3), (4, .int j17.1)]) (sf := fun j17 => []) (mf := fun j17 => j17.2) (fun again18 h19 j17 => ?_) fuel ((nI 0), μ1)
            try dsimp only
            refine g_iload K 4 rfl 54 dX4_house_52 rfl ?_
            refine g_iconst K (nI 4) ic_4 55 dX4_house_54 rfl ?_
            refine g_icmp_ge K 58 82 dX4_house_55 rfl (by decide) (fun _ => ?_) (fun _ => ?_)
            · refine g_sub (ls' := [(0, .ref am), (2, .int x2), (3, .int x3)]) [0, 2, 3] rfl ?_
              exact h7 j17.2
            · refine g_aloadn K 0 rfl rfl 59 dX4_house_58 rfl ?_
              refine gm_get K hK hcl 1 62 (by decide) q1486 rfl dX4_house_59 rfl ?_
              refine g_bipush K (nI 7) bp_7 64 dX4_house_62 rfl ?_
              refine g_iconst K (nI 4) ic_4 65 dX4_house_64 rfl ?_
              refine g_aloadn K 0 rfl rfl 66 dX4_house_65 rfl ?_
              refine gm_get K hK hcl 6 69 (by decide) q1491 rfl dX4_house_66 rfl ?_
              refine g_imul K 70 dX4_house_69 rfl ?_
              refine g_iadd K 71 dX4_house_70 rfl ?_
              refine g_iload K 4 rfl 73 dX4_house_71 rfl ?_
              refine g_iadd K 74 dX4_house_73 rfl ?_
              refine g_iloadn K 1 rfl rfl 75 dX4_house_74 rfl ?_
              refine gm_ast K hK hcl 1 1 115 76 rfl (fun _ => rfl) dX4_house_75 rfl (fun μ20 _ => ?_)
              refine g_iinc K (j17.1 + (nI 1)) 4 [(0, .ref am), (1, .int x1), (2, .int x2), (3, .int x3), (4, .int (j17.1 + (nI 1)))] [1, 2, 3, 4, 0] rfl (by rw [ic_1]) (by decide) rfl 79 dX4_house_76 rfl ?_
              refine g_goto K 52 dX4_house_79 (by decide) ?_
              exact h19 ((j17.1 + (nI 1)), μ20)
/-- isHouse(I)Z -/
def m_isHouse (μ : Mem) (x1 : Int32) : Option (Bool) :=
  if x1 < 0 then
  some false
  else
  if (μ 6 0) ≤ x1 then
  some false
  else
  some true
theorem wd_isHouse : yX4_isHouse.cls = RX4 ∧ yX4_isHouse.cls ≠ "java/lang/invoke/MethodHandle" ∧ yX4_isHouse.cls ≠ "java/lang/invoke/VarHandle" ∧ (parseMethodDescriptor yX4_isHouse.desc).map (fun d => d.parameters.length) = some 1 := by decide +kernel
set_option maxRecDepth 100000 in
theorem ct_isHouse (μ : Mem) (x1 : Int32) : CtM yX4_isHouse cX4_isHouse 2 (some .boolean) 0 0 [.int x1] μ (fun r => (some (.int (bI r)), μ)) (m_isHouse μ x1) := by
  refine CtM.of (by decide) rfl (fun _ => Nat.le_of_ble_eq_true rfl) ?_
  intro l D cl ci cA am p e s m args below meth c hcl K hr hlk hK
  refine g_sub (ls' := [(0, .ref am), (1, .int x1)]) [0, 1] rfl ?_
  unfold m_isHouse
  refine g_iloadn K 1 rfl rfl 1 dX4_isHouse_0 rfl ?_
  refine g_if_lt K 4 16 dX4_isHouse_1 rfl (by decide) (fun _ => ?_) (fun _ => ?_)
  · refine g_iconst K (nI 0) ic_0 17 dX4_isHouse_16 rfl ?_
    exact gm_zret K hK hcl hr hlk (b := false) dX4_isHouse_17 rfl rfl
  · refine g_iloadn K 1 rfl rfl 5 dX4_isHouse_4 rfl ?_
    refine g_aloadn K 0 rfl rfl 6 dX4_isHouse_5 rfl ?_
    refine gm_get K hK hcl 6 9 (by decide) q1491 rfl dX4_isHouse_6 rfl ?_
    refine g_icmp_ge K 12 16 dX4_isHouse_9 rfl (by decide) (fun _ => ?_) (fun _ => ?_)
    · refine g_iconst K (nI 0) ic_0 17 dX4_isHouse_16 rfl ?_
      exact gm_zret K hK hcl hr hlk (b := false) dX4_isHouse_17 rfl rfl
    · refine g_iconst K (nI 1) ic_1 13 dX4_isHouse_12 rfl ?_
      refine g_goto K 17 dX4_isHouse_13 (by decide) ?_
      exact gm_zret K hK hcl hr hlk (b := true) dX4_isHouse_17 rfl rfl
/-- canSet(III)Z -/
def m_canSet (μ : Mem) (x1 : Int32) (x2 : Int32) (x3 : Int32) : Option (Bool) :=
  if x1 = (nI 8) then
  (m_isIn μ x3 (nI 0) (nI 9)).bind fun r8 =>
  some r8
  else
  (m_isIn μ x1 (nI 0) (nI 7)).bind fun r1 =>
  if (bI r1) = 0 then
  some false
  else
  (m_isHouse μ x2).bind fun r2 =>
  if (bI r2) = 0 then
  some false
  else
  (m_isIn μ x1 (nI 4) (nI 6)).bind fun r3 =>
  jn (fun (j4 : Int32) =>
  (m_isIn μ x3 (nI 0) j4).bind fun r7 =>
  if (bI r7) = 0 then
  some false
  else
  some true) (fun k5 =>
  if (bI r3) = 0 then
  k5 (nI 99)
  else
  k5 (nI 9))
theorem wd_canSet : yX4_canSet.cls = RX4 ∧ yX4_canSet.cls ≠ "java/lang/invoke/MethodHandle" ∧ yX4_canSet.cls ≠ "java/lang/invoke/VarHandle" ∧ (parseMethodDescriptor yX4_canSet.desc).map (fun d => d.parameters.length) = some 3 := by decide +kernel
set_option maxRecDepth 100000 in
theorem ct_canSet (μ : Mem) (x1 : Int32) (x2 : Int32) (x3 : Int32) : CtM yX4_canSet cX4_canSet 4 (some .boolean) 1 23 [.int x1, .int x2, .int x3] μ (fun r => (some (.int (bI r)), μ)) (m_canSet μ x1 x2 x3) := by
  refine CtM.of (by decide) rfl (fun _ => Nat.le_of_ble_eq_true rfl) ?_
  intro l D cl ci cA am p e s m args below meth c hcl K hr hlk hK
  refine g_sub (ls' := [(0, .ref am), (1, .int x1), (2, .int x2), (3, .int x3)]) [0, 1, 2, 3] rfl ?_
  unfold m_canSet
  refine g_iloadn K 1 rfl rfl 1 dX4_canSet_0 rfl ?_
  refine g_bipush K (nI 8) bp_8 3 dX4_canSet_1 rfl ?_
  refine g_icmp_ne K 6 15 dX4_canSet_3 rfl (by decide) (fun _ => ?_) (fun _ => ?_)
  · refine g_aloadn K 0 rfl rfl 7 dX4_canSet_6 rfl ?_
    refine g_iloadn K 3 rfl rfl 8 dX4_canSet_7 rfl ?_
    refine g_iconst K (nI 0) ic_0 9 dX4_canSet_8 rfl ?_
    refine g_bipush K (nI 9) bp_9 11 dX4_canSet_9 rfl ?_
    refine gm_call K hK hcl 14 (ct_isIn μ x3 (nI 0) (nI 9)) (lw_V q1723 q1725 qs55 q158 q1726) wd_isIn (by decide) rfl (Nat.le_of_ble_eq_true rfl) dX4_canSet_11 rfl (fun r8 _ => ?_)
    exact gm_zret K hK hcl hr hlk (b := r8) dX4_canSet_14 rfl rfl
  · refine g_aloadn K 0 rfl rfl 16 dX4_canSet_15 rfl ?_
    refine g_iloadn K 1 rfl rfl 17 dX4_canSet_16 rfl ?_
    refine g_iconst K (nI 0) ic_0 18 dX4_canSet_17 rfl ?_
    refine g_bipush K (nI 7) bp_7 20 dX4_canSet_18 rfl ?_
    refine gm_call K hK hcl 23 (ct_isIn μ x1 (nI 0) (nI 7)) (lw_V q1723 q1725 qs55 q158 q1726) wd_isIn (by decide) rfl (Nat.le_of_ble_eq_true rfl) dX4_canSet_20 rfl (fun r1 _ => ?_)
    refine g_if_eq K 26 65 dX4_canSet_23 rfl (by decide) (fun _ => ?_) (fun _ => ?_)
    · refine g_iconst K (nI 0) ic_0 66 dX4_canSet_65 rfl ?_
      exact gm_zret K hK hcl hr hlk (b := false) dX4_canSet_66 rfl rfl
    · refine g_aloadn K 0 rfl rfl 27 dX4_canSet_26 rfl ?_
      refine g_iloadn K 2 rfl rfl 28 dX4_canSet_27 rfl ?_
      refine gm_call K hK hcl 31 (ct_isHouse μ x2) (lw_V q1735 q1737 qs57 q158 q1738) wd_isHouse (by decide) rfl (Nat.le_of_ble_eq_true rfl) dX4_canSet_28 rfl (fun r2 _ => ?_)
      refine g_if_eq K 34 65 dX4_canSet_31 rfl (by decide) (fun _ => ?_) (fun _ => ?_)
      · refine g_iconst K (nI 0) ic_0 66 dX4_canSet_65 rfl ?_
        exact gm_zret K hK hcl hr hlk (b := false) dX4_canSet_66 rfl rfl
      · refine g_aloadn K 0 rfl rfl 35 dX4_canSet_34 rfl ?_
        refine g_iloadn K 3 rfl rfl 36 dX4_canSet_35 rfl ?_
        refine g_iconst K (nI 0) ic_0 37 dX4_canSet_36 rfl ?_
        refine g_aloadn K 0 rfl rfl 38 dX4_canSet_37 rfl ?_
        refine g_iloadn K 1 rfl rfl 39 dX4_canSet_38 rfl ?_
        refine g_iconst K (nI 4) ic_4 40 dX4_canSet_39 rfl ?_
        refine g_bipush K (nI 6) bp_6 42 dX4_canSet_40 rfl ?_
        refine gm_call K hK hcl 45 (ct_isIn μ x1 (nI 4) (nI 6)) (lw_V q1723 q1725 qs55 q158 q1726) wd_isIn (by decide) rfl (Nat.le_of_ble_eq_true rfl) dX4_canSet_42 rfl (fun r3 _ => ?_)
        refine g_jn (head := 55) (L := fun j4 => [(0, .ref am)]) (sf := fun j4 => [.int j4, .int (nI 0), .int x3, .ref am]) (mf := fun j4 => μ) (fun j4 => ?_) (fun k5 h6 => ?_)
        · try dsimp only
          refine gm_call K hK hcl 58 (ct_isIn μ x3 (nI 0) j4) (lw_V q1723 q1725 qs55 q158 q1726) wd_isIn (by decide) rfl (Nat.le_of_ble_eq_true rfl) dX4_canSet_55 rfl (fun r7 _ => ?_)
          refine g_if_eq K 61 65 dX4_canSet_58 rfl (by decide) (fun _ => ?_) (fun _ => ?_)
          · refine g_iconst K (nI 0) ic_0 66 dX4_canSet_65 rfl ?_
            exact gm_zret K hK hcl hr hlk (b := false) dX4_canSet_66 rfl rfl
          · refine g_iconst K (nI 1) ic_1 62 dX4_canSet_61 rfl ?_
            refine g_goto K 66 dX4_canSet_62 (by decide) ?_
            exact gm_zret K hK hcl hr hlk (b := true) dX4_canSet_66 rfl rfl
        · refine g_if_eq K 48 53 dX4_canSet_45 rfl (by decide) (fun _ => ?_) (fun _ => ?_)
          · refine g_bipush K (nI 99) bp_99 55 dX4_canSet_53 rfl ?_
            refine g_sub (ls' := [(0, .ref am)]) [0] rfl ?_
            exact h6 (nI 99)
          · refine g_bipush K (nI 9) bp_9 50 dX4_canSet_48 rfl ?_
            refine g_goto K 55 dX4_canSet_50 (by decide) ?_
            refine g_sub (ls' := [(0, .ref am)]) [0] rfl ?_
            exact h6 (nI 9)
/-- held(III)I -/
def m_held (μ : Mem) (x1 : Int32) (x2 : Int32) (x3 : Int32) : Option (Int32) :=
  if x2 ≤ x1 then
  if x1 ≤ x3 then
  some x1
  else
  some x3
  else
  some x2
theorem wd_held : yX4_held.cls = RX4 ∧ yX4_held.cls ≠ "java/lang/invoke/MethodHandle" ∧ yX4_held.cls ≠ "java/lang/invoke/VarHandle" ∧ (parseMethodDescriptor yX4_held.desc).map (fun d => d.parameters.length) = some 3 := by decide +kernel
set_option maxRecDepth 100000 in
theorem ct_held (μ : Mem) (x1 : Int32) (x2 : Int32) (x3 : Int32) : CtM yX4_held cX4_held 4 (some .int) 0 0 [.int x1, .int x2, .int x3] μ (fun r => (some (.int r), μ)) (m_held μ x1 x2 x3) := by
  refine CtM.of (by decide) rfl (fun _ => Nat.le_of_ble_eq_true rfl) ?_
  intro l D cl ci cA am p e s m args below meth c hcl K hr hlk hK
  refine g_sub (ls' := [(0, .ref am), (1, .int x1), (2, .int x2), (3, .int x3)]) [0, 1, 2, 3] rfl ?_
  unfold m_held
  refine g_iloadn K 1 rfl rfl 1 dX4_held_0 rfl ?_
  refine g_iloadn K 2 rfl rfl 2 dX4_held_1 rfl ?_
  refine g_icmp_ge K 5 9 dX4_held_2 rfl (by decide) (fun _ => ?_) (fun _ => ?_)
  · refine g_iloadn K 1 rfl rfl 10 dX4_held_9 rfl ?_
    refine g_iloadn K 3 rfl rfl 11 dX4_held_10 rfl ?_
    refine g_icmp_le K 14 18 dX4_held_11 rfl (by decide) (fun _ => ?_) (fun _ => ?_)
    · refine g_iloadn K 1 rfl rfl 19 dX4_held_18 rfl ?_
      exact gm_iret K hK hcl hr hlk dX4_held_19 rfl
    · refine g_iloadn K 3 rfl rfl 15 dX4_held_14 rfl ?_
      refine g_goto K 19 dX4_held_15 (by decide) ?_
      exact gm_iret K hK hcl hr hlk dX4_held_19 rfl
  · refine g_iloadn K 2 rfl rfl 6 dX4_held_5 rfl ?_
    refine g_goto K 19 dX4_held_6 (by decide) ?_
    exact gm_iret K hK hcl hr hlk dX4_held_19 rfl
/-- hasWall(III)V -/
def m_hasWall (μ : Mem) (x1 : Int32) (x2 : Int32) (x3 : Int32) : Option (Mem) :=
  (m_held μ x3 (nI 0) (nI 99)).bind fun r1 =>
  (wr μ 1 115 (((nI 7) + ((nI 4) * x1)) + x2) r1).bind fun μ2 =>
  some μ2
theorem wd_hasWall : yX4_hasWall.cls = RX4 ∧ yX4_hasWall.cls ≠ "java/lang/invoke/MethodHandle" ∧ yX4_hasWall.cls ≠ "java/lang/invoke/VarHandle" ∧ (parseMethodDescriptor yX4_hasWall.desc).map (fun d => d.parameters.length) = some 3 := by decide +kernel
set_option maxRecDepth 100000 in
theorem ct_hasWall (μ : Mem) (x1 : Int32) (x2 : Int32) (x3 : Int32) : CtM yX4_hasWall cX4_hasWall 4 none 1 23 [.int x1, .int x2, .int x3] μ (fun r => (none, r)) (m_hasWall μ x1 x2 x3) := by
  refine CtM.of (by decide) rfl (fun _ => Nat.le_of_ble_eq_true rfl) ?_
  intro l D cl ci cA am p e s m args below meth c hcl K hr hlk hK
  refine g_sub (ls' := [(0, .ref am), (1, .int x1), (2, .int x2), (3, .int x3)]) [0, 1, 2, 3] rfl ?_
  unfold m_hasWall
  refine g_aloadn K 0 rfl rfl 1 dX4_hasWall_0 rfl ?_
  refine gm_get K hK hcl 1 4 (by decide) q1486 rfl dX4_hasWall_1 rfl ?_
  refine g_bipush K (nI 7) bp_7 6 dX4_hasWall_4 rfl ?_
  refine g_iconst K (nI 4) ic_4 7 dX4_hasWall_6 rfl ?_
  refine g_iloadn K 1 rfl rfl 8 dX4_hasWall_7 rfl ?_
  refine g_imul K 9 dX4_hasWall_8 rfl ?_
  refine g_iadd K 10 dX4_hasWall_9 rfl ?_
  refine g_iloadn K 2 rfl rfl 11 dX4_hasWall_10 rfl ?_
  refine g_iadd K 12 dX4_hasWall_11 rfl ?_
  refine g_aloadn K 0 rfl rfl 13 dX4_hasWall_12 rfl ?_
  refine g_iloadn K 3 rfl rfl 14 dX4_hasWall_13 rfl ?_
  refine g_iconst K (nI 0) ic_0 15 dX4_hasWall_14 rfl ?_
  refine g_bipush K (nI 99) bp_99 17 dX4_hasWall_15 rfl ?_
  refine gm_call K hK hcl 20 (ct_held μ x3 (nI 0) (nI 99)) (lw_V q1743 q1745 qs59 q158 q1746) wd_held (by decide) rfl (Nat.le_of_ble_eq_true rfl) dX4_hasWall_17 rfl (fun r1 _ => ?_)
  refine gm_ast K hK hcl 1 1 115 21 rfl (fun _ => rfl) dX4_hasWall_20 rfl (fun μ2 _ => ?_)
  exact gm_vret K hK hcl hr hlk dX4_hasWall_21 rfl
/-- set(III)Z -/
def m_set (μ : Mem) (x1 : Int32) (x2 : Int32) (x3 : Int32) : Option (Bool × Mem) :=
  nm (up2 μ 0 0 (nI 0)) fun μ1 =>
  (m_canSet μ1 x1 x2 x3).bind fun r2 =>
  if (bI r2) = 0 then
  some (false, μ1)
  else
  jn (fun (j3 : Mem) =>
  jn (fun (j6 : Mem) =>
  jn (fun (j9 : Mem) =>
  jn (fun (j12 : Mem) =>
  jn (fun (j15 : Mem) =>
  jn (fun (j18 : Mem) =>
  nm (up2 j18 3 0 (nI 0)) fun μ21 =>
  some (true, μ21)) (fun k19 =>
  if x1 = (nI 8) then
  (wr j15 1 115 (nI 3) x3).bind fun μ22 =>
  k19 μ22
  else
  k19 j15)) (fun k16 =>
  if x1 = (nI 7) then
  (wr j12 1 115 ((nI 79) + x2) x3).bind fun μ23 =>
  k16 μ23
  else
  k16 j12)) (fun k13 =>
  if x1 = (nI 6) then
  (wr j9 1 115 ((nI 55) + x2) x3).bind fun μ24 =>
  k13 μ24
  else
  k13 j9)) (fun k10 =>
  if x1 = (nI 5) then
  (wr j6 8 12 x2 x3).bind fun μ25 =>
  k10 μ25
  else
  k10 j6)) (fun k7 =>
  if x1 = (nI 4) then
  (wr j3 7 12 x2 x3).bind fun μ26 =>
  k7 μ26
  else
  k7 j3)) (fun k4 =>
  if (nI 4) ≤ x1 then
  k4 μ1
  else
  (m_hasWall μ1 x2 x1 x3).bind fun r27 =>
  k4 r27)
theorem wd_set : yX4_set.cls = RX4 ∧ yX4_set.cls ≠ "java/lang/invoke/MethodHandle" ∧ yX4_set.cls ≠ "java/lang/invoke/VarHandle" ∧ (parseMethodDescriptor yX4_set.desc).map (fun d => d.parameters.length) = some 3 := by decide +kernel
set_option maxRecDepth 100000 in
theorem ct_set (μ : Mem) (x1 : Int32) (x2 : Int32) (x3 : Int32) : CtM yX4_set cX4_set 4 (some .boolean) 2 46 [.int x1, .int x2, .int x3] μ (fun r => (some (.int (bI r.1)), r.2)) (m_set μ x1 x2 x3) := by
  refine CtM.of (by decide) rfl (fun _ => Nat.le_of_ble_eq_true rfl) ?_
  intro l D cl ci cA am p e s m args below meth c hcl K hr hlk hK
  refine g_sub (ls' := [(0, .ref am), (1, .int x1), (2, .int x2), (3, .int x3)]) [0, 1, 2, 3] rfl ?_
  unfold m_set
  refine g_aloadn K 0 rfl rfl 1 dX4_set_0 rfl ?_
  refine g_iconst K (nI 0) ic_0 2 dX4_set_1 rfl ?_
  refine gm_put K hK hcl 0 (ty := .int) 5 (by decide) q1485 rfl (by decide +kernel) rfl rfl rfl dX4_set_2 rfl (fun μ1 _ => ?_)
  refine g_aloadn K 0 rfl rfl 6 dX4_set_5 rfl ?_
  refine g_iloadn K 1 rfl rfl 7 dX4_set_6 rfl ?_
  refine g_iloadn K 2 rfl rfl 8 dX4_set_7 rfl ?_
  refine g_iloadn K 3 rfl rfl 9 dX4_set_8 rfl ?_
  refine gm_call K hK hcl 12 (ct_canSet μ1 x1 x2 x3) (lw_V q1731 q1733 qs56 q158 q1734) wd_canSet (by decide) rfl (Nat.le_of_ble_eq_true rfl) dX4_set_9 rfl (fun r2 _ => ?_)
  refine g_if_ne K 15 17 dX4_set_12 rfl (by decide) (fun _ => ?_) (fun _ => ?_)
  · refine g_iconst K (nI 0) ic_0 16 dX4_set_15 rfl ?_
    exact gm_zret K hK hcl hr hlk (b := false) dX4_set_16 rfl rfl
  · refine g_iloadn K 1 rfl rfl 18 dX4_set_17 rfl ?_
    refine g_iconst K (nI 4) ic_4 19 dX4_set_18 rfl ?_
    refine g_jn (head := 29) (L := fun j3 => [(0, .ref am), (1, .int x1), (2, .int x2), (3, .int x3)]) (sf := fun j3 => []) (mf := fun j3 => j3) (fun j3 => ?_) (fun k4 h5 => ?_)
    · try dsimp only
      refine g_iloadn K 1 rfl rfl 30 dX4_set_29 rfl ?_
      refine g_iconst K (nI 4) ic_4 31 dX4_set_30 rfl ?_
      refine g_jn (head := 41) (L := fun j6 => [(0, .ref am), (1, .int x1), (2, .int x2), (3, .int x3)]) (sf := fun j6 => []) (mf := fun j6 => j6) (fun j6 => ?_) (fun k7 h8 => ?_)
      · try dsimp only
        refine g_iloadn K 1 rfl rfl 42 dX4_set_41 rfl ?_
        refine g_iconst K (nI 5) ic_5 43 dX4_set_42 rfl ?_
        refine g_jn (head := 53) (L := fun j9 => [(0, .ref am), (1, .int x1), (2, .int x2), (3, .int x3)]) (sf := fun j9 => []) (mf := fun j9 => j9) (fun j9 => ?_) (fun k10 h11 => ?_)
        · try dsimp only
          refine g_iloadn K 1 rfl rfl 54 dX4_set_53 rfl ?_
          refine g_bipush K (nI 6) bp_6 56 dX4_set_54 rfl ?_
          refine g_jn (head := 69) (L := fun j12 => [(0, .ref am), (1, .int x1), (2, .int x2), (3, .int x3)]) (sf := fun j12 => []) (mf := fun j12 => j12) (fun j12 => ?_) (fun k13 h14 => ?_)
          · try dsimp only
            refine g_iloadn K 1 rfl rfl 70 dX4_set_69 rfl ?_
            refine g_bipush K (nI 7) bp_7 72 dX4_set_70 rfl ?_
            refine g_jn (head := 85) (L := fun j15 => [(0, .ref am), (1, .int x1), (3, .int x3)]) (sf := fun j15 => []) (mf := fun j15 => j15) (fun j15 => ?_) (fun k16 h17 => ?_)
            · try dsimp only
              refine g_iloadn K 1 rfl rfl 86 dX4_set_85 rfl ?_
              refine g_bipush K (nI 8) bp_8 88 dX4_set_86 rfl ?_
              refine g_jn (head := 98) (L := fun j18 => [(0, .ref am)]) (sf := fun j18 => []) (mf := fun j18 => j18) (fun j18 => ?_) (fun k19 h20 => ?_)
              · try dsimp only
                refine g_aloadn K 0 rfl rfl 99 dX4_set_98 rfl ?_
                refine g_iconst K (nI 0) ic_0 100 dX4_set_99 rfl ?_
                refine gm_put K hK hcl 3 (ty := .int) 103 (by decide) q1488 rfl (by decide +kernel) rfl rfl rfl dX4_set_100 rfl (fun μ21 _ => ?_)
                refine g_iconst K (nI 1) ic_1 104 dX4_set_103 rfl ?_
                exact gm_zret K hK hcl hr hlk (b := true) dX4_set_104 rfl rfl
              · refine g_icmp_ne K 91 98 dX4_set_88 rfl (by decide) (fun _ => ?_) (fun _ => ?_)
                · refine g_aloadn K 0 rfl rfl 92 dX4_set_91 rfl ?_
                  refine gm_get K hK hcl 1 95 (by decide) q1486 rfl dX4_set_92 rfl ?_
                  refine g_iconst K (nI 3) ic_3 96 dX4_set_95 rfl ?_
                  refine g_iloadn K 2 rfl rfl 97 dX4_set_96 rfl ?_
                  refine gm_ast K hK hcl 1 1 115 98 rfl (fun _ => rfl) dX4_set_97 rfl (fun μ22 _ => ?_)
                  refine g_sub (ls' := [(0, .ref am)]) [0] rfl ?_
                  exact h20 μ22
                · refine g_sub (ls' := [(0, .ref am)]) [0] rfl ?_
                  exact h20 j15
            · refine g_icmp_ne K 75 85 dX4_set_72 rfl (by decide) (fun _ => ?_) (fun _ => ?_)
              · refine g_aloadn K 0 rfl rfl 76 dX4_set_75 rfl ?_
                refine gm_get K hK hcl 1 79 (by decide) q1486 rfl dX4_set_76 rfl ?_
                refine g_bipush K (nI 79) bp_79 81 dX4_set_79 rfl ?_
                refine g_iloadn K 2 rfl rfl 82 dX4_set_81 rfl ?_
                refine g_iadd K 83 dX4_set_82 rfl ?_
                refine g_iloadn K 3 rfl rfl 84 dX4_set_83 rfl ?_
                refine gm_ast K hK hcl 1 1 115 85 rfl (fun _ => rfl) dX4_set_84 rfl (fun μ23 _ => ?_)
                refine g_sub (ls' := [(0, .ref am), (1, .int x1), (3, .int x3)]) [0, 1, 3] rfl ?_
                exact h17 μ23
              · refine g_sub (ls' := [(0, .ref am), (1, .int x1), (3, .int x3)]) [0, 1, 3] rfl ?_
                exact h17 j12
          · refine g_icmp_ne K 59 69 dX4_set_56 rfl (by decide) (fun _ => ?_) (fun _ => ?_)
            · refine g_aloadn K 0 rfl rfl 60 dX4_set_59 rfl ?_
              refine gm_get K hK hcl 1 63 (by decide) q1486 rfl dX4_set_60 rfl ?_
              refine g_bipush K (nI 55) bp_55 65 dX4_set_63 rfl ?_
              refine g_iloadn K 2 rfl rfl 66 dX4_set_65 rfl ?_
              refine g_iadd K 67 dX4_set_66 rfl ?_
              refine g_iloadn K 3 rfl rfl 68 dX4_set_67 rfl ?_
              refine gm_ast K hK hcl 1 1 115 69 rfl (fun _ => rfl) dX4_set_68 rfl (fun μ24 _ => ?_)
              exact h14 μ24
            · exact h14 j9
        · refine g_icmp_ne K 46 53 dX4_set_43 rfl (by decide) (fun _ => ?_) (fun _ => ?_)
          · refine g_aloadn K 0 rfl rfl 47 dX4_set_46 rfl ?_
            refine gm_get K hK hcl 8 50 (by decide) q1493 rfl dX4_set_47 rfl ?_
            refine g_iloadn K 2 rfl rfl 51 dX4_set_50 rfl ?_
            refine g_iloadn K 3 rfl rfl 52 dX4_set_51 rfl ?_
            refine gm_ast K hK hcl 8 5 12 53 rfl (fun _ => rfl) dX4_set_52 rfl (fun μ25 _ => ?_)
            exact h11 μ25
          · exact h11 j6
      · refine g_icmp_ne K 34 41 dX4_set_31 rfl (by decide) (fun _ => ?_) (fun _ => ?_)
        · refine g_aloadn K 0 rfl rfl 35 dX4_set_34 rfl ?_
          refine gm_get K hK hcl 7 38 (by decide) q1492 rfl dX4_set_35 rfl ?_
          refine g_iloadn K 2 rfl rfl 39 dX4_set_38 rfl ?_
          refine g_iloadn K 3 rfl rfl 40 dX4_set_39 rfl ?_
          refine gm_ast K hK hcl 7 4 12 41 rfl (fun _ => rfl) dX4_set_40 rfl (fun μ26 _ => ?_)
          exact h8 μ26
        · exact h8 j3
    · refine g_icmp_ge K 22 29 dX4_set_19 rfl (by decide) (fun _ => ?_) (fun _ => ?_)
      · exact h5 μ1
      · refine g_aloadn K 0 rfl rfl 23 dX4_set_22 rfl ?_
        refine g_iloadn K 2 rfl rfl 24 dX4_set_23 rfl ?_
        refine g_iloadn K 1 rfl rfl 25 dX4_set_24 rfl ?_
        refine g_iloadn K 3 rfl rfl 26 dX4_set_25 rfl ?_
        refine gm_call K hK hcl 29 (ct_hasWall μ1 x2 x1 x3) (lw_V q1739 q1741 qs58 q158 q1742) wd_hasWall (by decide) rfl (Nat.le_of_ble_eq_true rfl) dX4_set_26 rfl (fun r27 _ => ?_)
        exact h5 r27
/-- types(I)V -/
def m_types (μ : Mem) (x1 : Int32) : Option (Mem) :=
  lp (fun again2 (j1 : Int32 × Mem) =>
  if j1.1 < 0 then
  some j1.2
  else
  (wr j1.2 10 400 (j1.2 11 0) ((x1 >>> (j1.1 &&& 31)) &&& (nI 255))).bind fun μ4 =>
  nm (up2 μ4 11 0 ((μ4 11 0) + (nI 1))) fun μ5 =>
  again2 ((j1.1 + (-8 : Int32)), μ5)) fuel ((nI 24), μ)
theorem wd_types : yX4_types.cls = RX4 ∧ yX4_types.cls ≠ "java/lang/invoke/MethodHandle" ∧ yX4_types.cls ≠ "java/lang/invoke/VarHandle" ∧ (parseMethodDescriptor yX4_types.desc).map (fun d => d.parameters.length) = some 1 := by decide +kernel
set_option maxRecDepth 100000 in
theorem ct_types (μ : Mem) (x1 : Int32) : CtM yX4_types cX4_types 3 none 0 0 [.int x1] μ (fun r => (none, r)) (m_types μ x1) := by
  refine CtM.of (by decide) rfl (fun _ => Nat.le_of_ble_eq_true rfl) ?_
  intro l D cl ci cA am p e s m args below meth c hcl K hr hlk hK
  refine g_sub (ls' := [(0, .ref am), (1, .int x1)]) [0, 1] rfl ?_
  unfold m_types
  refine g_bipush K (nI 24) bp_24 2 dX4_types_0 rfl ?_
  refine g_istoren K [(0, .ref am), (1, .int x1), (2, .int (nI 24))] [1, 2, 0] rfl (by decide) rfl 3 dX4_types_2 rfl ?_
  refine g_lp (head := 3) (L := fun j1 => [(0, .ref am), (1, .int x1), (2, .int j1.1)]) (sf := fun j1 => []) (mf := fun j1 => j1.2) (fun again2 h3 j1 => ?_) fuel ((nI 24), μ)
  try dsimp only
  refine g_iloadn K 2 rfl rfl 4 dX4_types_3 rfl ?_
  refine g_if_lt K 7 39 dX4_types_4 rfl (by decide) (fun _ => ?_) (fun _ => ?_)
  · exact gm_vret K hK hcl hr hlk dX4_types_39 rfl
  · refine g_aloadn K 0 rfl rfl 8 dX4_types_7 rfl ?_
    refine gm_get K hK hcl 10 11 (by decide) q1495 rfl dX4_types_8 rfl ?_
    refine g_aloadn K 0 rfl rfl 12 dX4_types_11 rfl ?_
    refine gm_get K hK hcl 11 15 (by decide) q1496 rfl dX4_types_12 rfl ?_
    refine g_iloadn K 1 rfl rfl 16 dX4_types_15 rfl ?_
    refine g_iloadn K 2 rfl rfl 17 dX4_types_16 rfl ?_
    refine g_ishr K 18 dX4_types_17 rfl ?_
    refine g_sipush K (nI 255) sp_255 21 dX4_types_18 rfl ?_
    refine g_iand K 22 dX4_types_21 rfl ?_
    refine gm_ast K hK hcl 10 7 400 23 rfl (fun _ => rfl) dX4_types_22 rfl (fun μ4 _ => ?_)
    refine g_aloadn K 0 rfl rfl 24 dX4_types_23 rfl ?_
    refine g_aloadn K 0 rfl rfl 25 dX4_types_24 rfl ?_
    refine gm_get K hK hcl 11 28 (by decide) q1496 rfl dX4_types_25 rfl ?_
    refine g_iconst K (nI 1) ic_1 29 dX4_types_28 rfl ?_
    refine g_iadd K 30 dX4_types_29 rfl ?_
    refine gm_put K hK hcl 11 (ty := .int) 33 (by decide) q1496 rfl (by decide +kernel) rfl rfl rfl dX4_types_30 rfl (fun μ5 _ => ?_)
    refine g_iinc K (j1.1 + (-8 : Int32)) 2 [(0, .ref am), (1, .int x1), (2, .int (j1.1 + (-8 : Int32)))] [1, 2, 0] rfl (by rw [ic_m8]) (by decide) rfl 36 dX4_types_33 rfl ?_
    refine g_goto K 3 dX4_types_36 (by decide) ?_
    exact h3 ((j1.1 + (-8 : Int32)), μ5)
/-- feed(IIIII)I -/
def m_feed (μ : Mem) (x1 : Int32) (x2 : Int32) (x3 : Int32) (x4 : Int32) (x5 : Int32) : Option (Int32 × Mem) :=
  nm (up2 μ 0 0 (nI 0)) fun μ1 =>
  if (μ1 11 0) ≤ (nI 380) then
  (m_types μ1 x1).bind fun r2 =>
  (m_types r2 x2).bind fun r3 =>
  (m_types r3 x3).bind fun r4 =>
  (m_types r4 x4).bind fun r5 =>
  (m_types r5 x5).bind fun r6 =>
  some ((r6 11 0), r6)
  else
  some ((-1 : Int32), μ1)
theorem wd_feed : yX4_feed.cls = RX4 ∧ yX4_feed.cls ≠ "java/lang/invoke/MethodHandle" ∧ yX4_feed.cls ≠ "java/lang/invoke/VarHandle" ∧ (parseMethodDescriptor yX4_feed.desc).map (fun d => d.parameters.length) = some 5 := by decide +kernel
set_option maxRecDepth 100000 in
theorem ct_feed (μ : Mem) (x1 : Int32) (x2 : Int32) (x3 : Int32) (x4 : Int32) (x5 : Int32) : CtM yX4_feed cX4_feed 6 (some .int) 1 22 [.int x1, .int x2, .int x3, .int x4, .int x5] μ (fun r => (some (.int r.1), r.2)) (m_feed μ x1 x2 x3 x4 x5) := by
  refine CtM.of (by decide) rfl (fun _ => Nat.le_of_ble_eq_true rfl) ?_
  intro l D cl ci cA am p e s m args below meth c hcl K hr hlk hK
  refine g_sub (ls' := [(0, .ref am), (1, .int x1), (2, .int x2), (3, .int x3), (4, .int x4), (5, .int x5)]) [0, 1, 2, 3, 4, 5] rfl ?_
  unfold m_feed
  refine g_aloadn K 0 rfl rfl 1 dX4_feed_0 rfl ?_
  refine g_iconst K (nI 0) ic_0 2 dX4_feed_1 rfl ?_
  refine gm_put K hK hcl 0 (ty := .int) 5 (by decide) q1485 rfl (by decide +kernel) rfl rfl rfl dX4_feed_2 rfl (fun μ1 _ => ?_)
  refine g_aloadn K 0 rfl rfl 6 dX4_feed_5 rfl ?_
  refine gm_get K hK hcl 11 9 (by decide) q1496 rfl dX4_feed_6 rfl ?_
  refine g_sipush K (nI 380) sp_380 12 dX4_feed_9 rfl ?_
  refine g_icmp_le K 15 17 dX4_feed_12 rfl (by decide) (fun _ => ?_) (fun _ => ?_)
  · refine g_aloadn K 0 rfl rfl 18 dX4_feed_17 rfl ?_
    refine g_iloadn K 1 rfl rfl 19 dX4_feed_18 rfl ?_
    refine gm_call K hK hcl 22 (ct_types μ1 x1) (lw_V q1751 q1753 qs60 q158 q1754) wd_types (by decide) rfl (Nat.le_of_ble_eq_true rfl) dX4_feed_19 rfl (fun r2 _ => ?_)
    refine g_aloadn K 0 rfl rfl 23 dX4_feed_22 rfl ?_
    refine g_iloadn K 2 rfl rfl 24 dX4_feed_23 rfl ?_
    refine gm_call K hK hcl 27 (ct_types r2 x2) (lw_V q1751 q1753 qs60 q158 q1754) wd_types (by decide) rfl (Nat.le_of_ble_eq_true rfl) dX4_feed_24 rfl (fun r3 _ => ?_)
    refine g_aloadn K 0 rfl rfl 28 dX4_feed_27 rfl ?_
    refine g_iloadn K 3 rfl rfl 29 dX4_feed_28 rfl ?_
    refine gm_call K hK hcl 32 (ct_types r3 x3) (lw_V q1751 q1753 qs60 q158 q1754) wd_types (by decide) rfl (Nat.le_of_ble_eq_true rfl) dX4_feed_29 rfl (fun r4 _ => ?_)
    refine g_aloadn K 0 rfl rfl 33 dX4_feed_32 rfl ?_
    refine g_iload K 4 rfl 35 dX4_feed_33 rfl ?_
    refine gm_call K hK hcl 38 (ct_types r4 x4) (lw_V q1751 q1753 qs60 q158 q1754) wd_types (by decide) rfl (Nat.le_of_ble_eq_true rfl) dX4_feed_35 rfl (fun r5 _ => ?_)
    refine g_aloadn K 0 rfl rfl 39 dX4_feed_38 rfl ?_
    refine g_iload K 5 rfl 41 dX4_feed_39 rfl ?_
    refine gm_call K hK hcl 44 (ct_types r5 x5) (lw_V q1751 q1753 qs60 q158 q1754) wd_types (by decide) rfl (Nat.le_of_ble_eq_true rfl) dX4_feed_41 rfl (fun r6 _ => ?_)
    refine g_aloadn K 0 rfl rfl 45 dX4_feed_44 rfl ?_
    refine gm_get K hK hcl 11 48 (by decide) q1496 rfl dX4_feed_45 rfl ?_
    exact gm_iret K hK hcl hr hlk dX4_feed_48 rfl
  · refine g_iconst K (-1 : Int32) ic_m1 16 dX4_feed_15 rfl ?_
    exact gm_iret K hK hcl hr hlk dX4_feed_16 rfl
/-- end(I)Z -/
def m_end (μ : Mem) (x1 : Int32) : Option (Bool × Mem) :=
  nm (up2 μ 0 0 (nI 0)) fun μ1 =>
  (m_isIn μ1 x1 (nI 0) (μ1 11 0)).bind fun r2 =>
  if (bI r2) = 0 then
  some (false, μ1)
  else
  nm (up2 μ1 11 0 x1) fun μ3 =>
  some (true, μ3)
theorem wd_end : yX4_end.cls = RX4 ∧ yX4_end.cls ≠ "java/lang/invoke/MethodHandle" ∧ yX4_end.cls ≠ "java/lang/invoke/VarHandle" ∧ (parseMethodDescriptor yX4_end.desc).map (fun d => d.parameters.length) = some 1 := by decide +kernel
set_option maxRecDepth 100000 in
theorem ct_end (μ : Mem) (x1 : Int32) : CtM yX4_end cX4_end 2 (some .boolean) 1 23 [.int x1] μ (fun r => (some (.int (bI r.1)), r.2)) (m_end μ x1) := by
  refine CtM.of (by decide) rfl (fun _ => Nat.le_of_ble_eq_true rfl) ?_
  intro l D cl ci cA am p e s m args below meth c hcl K hr hlk hK
  refine g_sub (ls' := [(0, .ref am), (1, .int x1)]) [0, 1] rfl ?_
  unfold m_end
  refine g_aloadn K 0 rfl rfl 1 dX4_end_0 rfl ?_
  refine g_iconst K (nI 0) ic_0 2 dX4_end_1 rfl ?_
  refine gm_put K hK hcl 0 (ty := .int) 5 (by decide) q1485 rfl (by decide +kernel) rfl rfl rfl dX4_end_2 rfl (fun μ1 _ => ?_)
  refine g_aloadn K 0 rfl rfl 6 dX4_end_5 rfl ?_
  refine g_iloadn K 1 rfl rfl 7 dX4_end_6 rfl ?_
  refine g_iconst K (nI 0) ic_0 8 dX4_end_7 rfl ?_
  refine g_aloadn K 0 rfl rfl 9 dX4_end_8 rfl ?_
  refine gm_get K hK hcl 11 12 (by decide) q1496 rfl dX4_end_9 rfl ?_
  refine gm_call K hK hcl 15 (ct_isIn μ1 x1 (nI 0) (μ1 11 0)) (lw_V q1723 q1725 qs55 q158 q1726) wd_isIn (by decide) rfl (Nat.le_of_ble_eq_true rfl) dX4_end_12 rfl (fun r2 _ => ?_)
  refine g_if_ne K 18 20 dX4_end_15 rfl (by decide) (fun _ => ?_) (fun _ => ?_)
  · refine g_iconst K (nI 0) ic_0 19 dX4_end_18 rfl ?_
    exact gm_zret K hK hcl hr hlk (b := false) dX4_end_19 rfl rfl
  · refine g_aloadn K 0 rfl rfl 21 dX4_end_20 rfl ?_
    refine g_iloadn K 1 rfl rfl 22 dX4_end_21 rfl ?_
    refine gm_put K hK hcl 11 (ty := .int) 25 (by decide) q1496 rfl (by decide +kernel) rfl rfl rfl dX4_end_22 rfl (fun μ3 _ => ?_)
    refine g_iconst K (nI 1) ic_1 26 dX4_end_25 rfl ?_
    exact gm_zret K hK hcl hr hlk (b := true) dX4_end_26 rfl rfl
/-- raw(I)I -/
def m_raw (μ : Mem) (x1 : Int32) : Option (Int32) :=
  if (μ 11 0) ≤ x1 then
  some (-1 : Int32)
  else
  (rd μ 10 400 x1).bind fun v1 =>
  some v1
theorem wd_raw : yX4_raw.cls = RX4 ∧ yX4_raw.cls ≠ "java/lang/invoke/MethodHandle" ∧ yX4_raw.cls ≠ "java/lang/invoke/VarHandle" ∧ (parseMethodDescriptor yX4_raw.desc).map (fun d => d.parameters.length) = some 1 := by decide +kernel
set_option maxRecDepth 100000 in
theorem ct_raw (μ : Mem) (x1 : Int32) : CtM yX4_raw cX4_raw 2 (some .int) 0 0 [.int x1] μ (fun r => (some (.int r), μ)) (m_raw μ x1) := by
  refine CtM.of (by decide) rfl (fun _ => Nat.le_of_ble_eq_true rfl) ?_
  intro l D cl ci cA am p e s m args below meth c hcl K hr hlk hK
  refine g_sub (ls' := [(0, .ref am), (1, .int x1)]) [0, 1] rfl ?_
  unfold m_raw
  refine g_iloadn K 1 rfl rfl 1 dX4_raw_0 rfl ?_
  refine g_aloadn K 0 rfl rfl 2 dX4_raw_1 rfl ?_
  refine gm_get K hK hcl 11 5 (by decide) q1496 rfl dX4_raw_2 rfl ?_
  refine g_icmp_ge K 8 17 dX4_raw_5 rfl (by decide) (fun _ => ?_) (fun _ => ?_)
  · refine g_iconst K (-1 : Int32) ic_m1 18 dX4_raw_17 rfl ?_
    exact gm_iret K hK hcl hr hlk dX4_raw_18 rfl
  · refine g_aloadn K 0 rfl rfl 9 dX4_raw_8 rfl ?_
    refine gm_get K hK hcl 10 12 (by decide) q1495 rfl dX4_raw_9 rfl ?_
    refine g_iloadn K 1 rfl rfl 13 dX4_raw_12 rfl ?_
    refine gm_ald K hK hcl 10 7 400 14 rfl dX4_raw_13 rfl (fun v1 _ => ?_)
    refine g_goto K 18 dX4_raw_14 (by decide) ?_
    exact gm_iret K hK hcl hr hlk dX4_raw_18 rfl
/-- isLetter(I)Z -/
def m_isLetter (μ : Mem) (x1 : Int32) : Option (Bool) :=
  (m_isIn μ x1 (nI 97) (nI 122)).bind fun r1 =>
  if (bI r1) = 0 then
  (m_isIn μ x1 (nI 65) (nI 90)).bind fun r2 =>
  if (bI r2) = 0 then
  some false
  else
  some true
  else
  some true
theorem wd_isLetter : yX4_isLetter.cls = RX4 ∧ yX4_isLetter.cls ≠ "java/lang/invoke/MethodHandle" ∧ yX4_isLetter.cls ≠ "java/lang/invoke/VarHandle" ∧ (parseMethodDescriptor yX4_isLetter.desc).map (fun d => d.parameters.length) = some 1 := by decide +kernel
set_option maxRecDepth 100000 in
theorem ct_isLetter (μ : Mem) (x1 : Int32) : CtM yX4_isLetter cX4_isLetter 2 (some .boolean) 1 23 [.int x1] μ (fun r => (some (.int (bI r)), μ)) (m_isLetter μ x1) := by
  refine CtM.of (by decide) rfl (fun _ => Nat.le_of_ble_eq_true rfl) ?_
  intro l D cl ci cA am p e s m args below meth c hcl K hr hlk hK
  refine g_sub (ls' := [(0, .ref am), (1, .int x1)]) [0, 1] rfl ?_
  unfold m_isLetter
  refine g_aloadn K 0 rfl rfl 1 dX4_isLetter_0 rfl ?_
  refine g_iloadn K 1 rfl rfl 2 dX4_isLetter_1 rfl ?_
  refine g_bipush K (nI 97) bp_97 4 dX4_isLetter_2 rfl ?_
  refine g_bipush K (nI 122) bp_122 6 dX4_isLetter_4 rfl ?_
  refine gm_call K hK hcl 9 (ct_isIn μ x1 (nI 97) (nI 122)) (lw_V q1723 q1725 qs55 q158 q1726) wd_isIn (by decide) rfl (Nat.le_of_ble_eq_true rfl) dX4_isLetter_6 rfl (fun r1 _ => ?_)
  refine g_if_ne K 12 24 dX4_isLetter_9 rfl (by decide) (fun _ => ?_) (fun _ => ?_)
  · refine g_aloadn K 0 rfl rfl 13 dX4_isLetter_12 rfl ?_
    refine g_iloadn K 1 rfl rfl 14 dX4_isLetter_13 rfl ?_
    refine g_bipush K (nI 65) bp_65 16 dX4_isLetter_14 rfl ?_
    refine g_bipush K (nI 90) bp_90 18 dX4_isLetter_16 rfl ?_
    refine gm_call K hK hcl 21 (ct_isIn μ x1 (nI 65) (nI 90)) (lw_V q1723 q1725 qs55 q158 q1726) wd_isIn (by decide) rfl (Nat.le_of_ble_eq_true rfl) dX4_isLetter_18 rfl (fun r2 _ => ?_)
    refine g_if_eq K 24 28 dX4_isLetter_21 rfl (by decide) (fun _ => ?_) (fun _ => ?_)
    · refine g_iconst K (nI 0) ic_0 29 dX4_isLetter_28 rfl ?_
      exact gm_zret K hK hcl hr hlk (b := false) dX4_isLetter_29 rfl rfl
    · refine g_iconst K (nI 1) ic_1 25 dX4_isLetter_24 rfl ?_
      refine g_goto K 29 dX4_isLetter_25 (by decide) ?_
      exact gm_zret K hK hcl hr hlk (b := true) dX4_isLetter_29 rfl rfl
  · refine g_iconst K (nI 1) ic_1 25 dX4_isLetter_24 rfl ?_
    refine g_goto K 29 dX4_isLetter_25 (by decide) ?_
    exact gm_zret K hK hcl hr hlk (b := true) dX4_isLetter_29 rfl rfl
/-- wordAt(II)I -/
def m_wordAt (μ : Mem) (x1 : Int32) (x2 : Int32) : Option (Int32) :=
  lp (fun again2 (j1 : Int32 × Int32) =>
  if (nI 140) ≤ j1.2 then
  some (-1 : Int32)
  else
  jn (fun (j4 : Int32) =>
  jn (fun (j7 : Unit) =>
  lp (fun again11 (j10 : Int32) =>
  (rd μ 16 141 j10).bind fun v13 =>
  if v13 = (nI 32) then
  again2 ((j1.1 + (nI 1)), j10)
  else
  again11 (j10 + (nI 1))) fuel (j1.2 + (nI 1))) (fun k8 =>
  if (x1 + j4) = x2 then
  (rd μ 16 141 ((j1.2 + (nI 1)) + j4)).bind fun v14 =>
  if v14 = (nI 32) then
  some (j1.1 + (nI 1))
  else
  k8 ()
  else
  k8 ())) (fun k5 =>
  lp (fun again16 (j15 : Int32) =>
  if x2 ≤ (x1 + j15) then
  k5 j15
  else
  (rd μ 16 141 ((j1.2 + (nI 1)) + j15)).bind fun v18 =>
  (rd μ 10 400 (x1 + j15)).bind fun v19 =>
  if v18 = v19 then
  again16 (j15 + (nI 1))
  else
  k5 j15) fuel (nI 0))) fuel ((-1 : Int32), (nI 0))
theorem wd_wordAt : yX4_wordAt.cls = RX4 ∧ yX4_wordAt.cls ≠ "java/lang/invoke/MethodHandle" ∧ yX4_wordAt.cls ≠ "java/lang/invoke/VarHandle" ∧ (parseMethodDescriptor yX4_wordAt.desc).map (fun d => d.parameters.length) = some 2 := by decide +kernel
set_option maxRecDepth 100000 in
theorem ct_wordAt (μ : Mem) (x1 : Int32) (x2 : Int32) : CtM yX4_wordAt cX4_wordAt 6 (some .int) 0 0 [.int x1, .int x2] μ (fun r => (some (.int r), μ)) (m_wordAt μ x1 x2) := by
  refine CtM.of (by decide) rfl (fun _ => Nat.le_of_ble_eq_true rfl) ?_
  intro l D cl ci cA am p e s m args below meth c hcl K hr hlk hK
  refine g_sub (ls' := [(0, .ref am), (1, .int x1), (2, .int x2)]) [0, 1, 2] rfl ?_
  unfold m_wordAt
  refine g_iconst K (-1 : Int32) ic_m1 1 dX4_wordAt_0 rfl ?_
  refine g_istoren K [(0, .ref am), (1, .int x1), (2, .int x2), (3, .int (-1 : Int32))] [1, 2, 3, 0] rfl (by decide) rfl 2 dX4_wordAt_1 rfl ?_
  refine g_iconst K (nI 0) ic_0 3 dX4_wordAt_2 rfl ?_
  refine g_istore K [(0, .ref am), (1, .int x1), (2, .int x2), (3, .int (-1 : Int32)), (4, .int (nI 0))] [1, 2, 3, 4, 0] (by decide) rfl 5 dX4_wordAt_3 rfl ?_
  refine g_lp (head := 5) (L := fun j1 => [(0, .ref am), (1, .int x1), (2, .int x2), (3, .int j1.1), (4, .int j1.2)]) (sf := fun j1 => []) (mf := fun j1 => μ) (fun again2 h3 j1 => ?_) fuel ((-1 : Int32), (nI 0))
  try dsimp only
  refine g_iload K 4 rfl 7 dX4_wordAt_5 rfl ?_
  refine g_sipush K (nI 140) sp_140 10 dX4_wordAt_7 rfl ?_
  refine g_icmp_ge K 13 118 dX4_wordAt_10 rfl (by decide) (fun _ => ?_) (fun _ => ?_)
  · refine g_iconst K (-1 : Int32) ic_m1 119 dX4_wordAt_118 rfl ?_
    exact gm_iret K hK hcl hr hlk dX4_wordAt_119 rfl
  · refine g_iconst K (nI 0) ic_0 14 dX4_wordAt_13 rfl ?_
    refine g_istore K [(0, .ref am), (1, .int x1), (2, .int x2), (3, .int j1.1), (4, .int j1.2), (5, .int (nI 0))] [1, 2, 3, 4, 5, 0] (by decide) rfl 16 dX4_wordAt_14 rfl ?_
    refine g_iloadn K 3 rfl rfl 17 dX4_wordAt_16 rfl ?_
    refine g_iconst K (nI 1) ic_1 18 dX4_wordAt_17 rfl ?_
    refine g_iadd K 19 dX4_wordAt_18 rfl ?_
    refine g_istoren K [(0, .ref am), (1, .int x1), (2, .int x2), (3, .int (j1.1 + (nI 1))), (4, .int j1.2), (5, .int (nI 0))] [1, 2, 3, 0, 4, 5] rfl (by decide) rfl 20 dX4_wordAt_19 rfl ?_
    refine g_jn (head := 61) (L := fun j4 => [(0, .ref am), (1, .int x1), (2, .int x2), (3, .int (j1.1 + (nI 1))), (4, .int j1.2), (5, .int j4)]) (sf := fun j4 => []) (mf := fun j4 => μ) (fun j4 => ?_) (fun k5 h6 => ?_)
    · try dsimp only
      refine g_iloadn K 1 rfl rfl 62 dX4_wordAt_61 rfl ?_
      refine g_iload K 5 rfl 64 dX4_wordAt_62 rfl ?_
      refine g_iadd K 65 dX4_wordAt_64 rfl ?_
      refine g_iloadn K 2 rfl rfl 66 dX4_wordAt_65 rfl ?_
      refine g_jn (head := 88) (L := fun j7 => [(0, .ref am), (1, .int x1), (2, .int x2), (3, .int (j1.1 + (nI 1))), (4, .int j1.2)]) (sf := fun j7 => []) (mf := fun j7 => μ) (fun j7 => ?_) (fun k8 h9 => ?_)
      · try dsimp only
        refine g_iload K 4 rfl 90 dX4_wordAt_88 rfl ?_
        refine g_iconst K (nI 1) ic_1 91 dX4_wordAt_90 rfl ?_
        refine g_iadd K 92 dX4_wordAt_91 rfl ?_
        refine g_istore K [(0, .ref am), (1, .int x1), (2, .int x2), (3, .int (j1.1 + (nI 1))), (4, .int (j1.2 + (nI 1)))] [1, 2, 3, 4, 0] (by decide) rfl 94 dX4_wordAt_92 rfl ?_
        refine g_lp (head := 94) (L := fun j10 => [(0, .ref am), (1, .int x1), (2, .int x2), (3, .int (j1.1 + (nI 1))), (4, .int j10)]) (sf := fun j10 => []) (mf := fun j10 => μ) (fun again11 h12 j10 => ?_) fuel (j1.2 + (nI 1))
        try dsimp only
        refine g_aloadn K 0 rfl rfl 95 dX4_wordAt_94 rfl ?_
        refine gm_get K hK hcl 16 98 (by decide) q1501 rfl dX4_wordAt_95 rfl ?_
        refine g_iload K 4 rfl 100 dX4_wordAt_98 rfl ?_
        refine gm_ald K hK hcl 16 8 141 101 rfl dX4_wordAt_100 rfl (fun v13 _ => ?_)
        refine g_bipush K (nI 32) bp_32 103 dX4_wordAt_101 rfl ?_
        refine g_icmp_eq K 106 115 dX4_wordAt_103 rfl (by decide) (fun _ => ?_) (fun _ => ?_)
        · refine g_goto K 5 dX4_wordAt_115 (by decide) ?_
          exact h3 ((j1.1 + (nI 1)), j10)
        · refine g_iload K 4 rfl 108 dX4_wordAt_106 rfl ?_
          refine g_iconst K (nI 1) ic_1 109 dX4_wordAt_108 rfl ?_
          refine g_iadd K 110 dX4_wordAt_109 rfl ?_
          refine g_istore K [(0, .ref am), (1, .int x1), (2, .int x2), (3, .int (j1.1 + (nI 1))), (4, .int (j10 + (nI 1)))] [1, 2, 3, 4, 0] (by decide) rfl 112 dX4_wordAt_110 rfl ?_
          refine g_goto K 94 dX4_wordAt_112 (by decide) ?_
          exact h12 (j10 + (nI 1))
      · refine g_icmp_ne K 69 88 dX4_wordAt_66 rfl (by decide) (fun _ => ?_) (fun _ => ?_)
        · refine g_aloadn K 0 rfl rfl 70 dX4_wordAt_69 rfl ?_
          refine gm_get K hK hcl 16 73 (by decide) q1501 rfl dX4_wordAt_70 rfl ?_
          refine g_iload K 4 rfl 75 dX4_wordAt_73 rfl ?_
          refine g_iconst K (nI 1) ic_1 76 dX4_wordAt_75 rfl ?_
          refine g_iadd K 77 dX4_wordAt_76 rfl ?_
          refine g_iload K 5 rfl 79 dX4_wordAt_77 rfl ?_
          refine g_iadd K 80 dX4_wordAt_79 rfl ?_
          refine gm_ald K hK hcl 16 8 141 81 rfl dX4_wordAt_80 rfl (fun v14 _ => ?_)
          refine g_bipush K (nI 32) bp_32 83 dX4_wordAt_81 rfl ?_
          refine g_icmp_ne K 86 88 dX4_wordAt_83 rfl (by decide) (fun _ => ?_) (fun _ => ?_)
          · refine g_iloadn K 3 rfl rfl 87 dX4_wordAt_86 rfl ?_
            exact gm_iret K hK hcl hr hlk dX4_wordAt_87 rfl
          · refine g_sub (ls' := [(0, .ref am), (1, .int x1), (2, .int x2), (3, .int (j1.1 + (nI 1))), (4, .int j1.2)]) [0, 1, 2, 3, 4] rfl ?_
            exact h9 ()
        · refine g_sub (ls' := [(0, .ref am), (1, .int x1), (2, .int x2), (3, .int (j1.1 + (nI 1))), (4, .int j1.2)]) [0, 1, 2, 3, 4] rfl ?_
          exact h9 ()
    · refine g_lp (head := 20) (L := fun j15 => [(0, .ref am), (1, .int x1), (2, .int x2), (3, .int (j1.1 + (nI 1))), (4, .int j1.2), (5, .int j15)]) (sf := fun j15 => []) (mf := fun j15 => μ) (fun again16 h17 j15 => ?_) fuel (nI 0)
      try dsimp only
      refine g_iloadn K 1 rfl rfl 21 dX4_wordAt_20 rfl ?_
      refine g_iload K 5 rfl 23 dX4_wordAt_21 rfl ?_
      refine g_iadd K 24 dX4_wordAt_23 rfl ?_
      refine g_iloadn K 2 rfl rfl 25 dX4_wordAt_24 rfl ?_
      refine g_icmp_ge K 28 61 dX4_wordAt_25 rfl (by decide) (fun _ => ?_) (fun _ => ?_)
      · exact h6 j15
      · refine g_aloadn K 0 rfl rfl 29 dX4_wordAt_28 rfl ?_
        refine gm_get K hK hcl 16 32 (by decide) q1501 rfl dX4_wordAt_29 rfl ?_
        refine g_iload K 4 rfl 34 dX4_wordAt_32 rfl ?_
        refine g_iconst K (nI 1) ic_1 35 dX4_wordAt_34 rfl ?_
        refine g_iadd K 36 dX4_wordAt_35 rfl ?_
        refine g_iload K 5 rfl 38 dX4_wordAt_36 rfl ?_
        refine g_iadd K 39 dX4_wordAt_38 rfl ?_
        refine gm_ald K hK hcl 16 8 141 40 rfl dX4_wordAt_39 rfl (fun v18 _ => ?_)
        refine g_aloadn K 0 rfl rfl 41 dX4_wordAt_40 rfl ?_
        refine gm_get K hK hcl 10 44 (by decide) q1495 rfl dX4_wordAt_41 rfl ?_
        refine g_iloadn K 1 rfl rfl 45 dX4_wordAt_44 rfl ?_
        refine g_iload K 5 rfl 47 dX4_wordAt_45 rfl ?_
        refine g_iadd K 48 dX4_wordAt_47 rfl ?_
        refine gm_ald K hK hcl 10 7 400 49 rfl dX4_wordAt_48 rfl (fun v19 _ => ?_)
        refine g_icmp_ne K 52 61 dX4_wordAt_49 rfl (by decide) (fun _ => ?_) (fun _ => ?_)
        · refine g_iload K 5 rfl 54 dX4_wordAt_52 rfl ?_
          refine g_iconst K (nI 1) ic_1 55 dX4_wordAt_54 rfl ?_
          refine g_iadd K 56 dX4_wordAt_55 rfl ?_
          refine g_istore K [(0, .ref am), (1, .int x1), (2, .int x2), (3, .int (j1.1 + (nI 1))), (4, .int j1.2), (5, .int (j15 + (nI 1)))] [1, 2, 3, 4, 5, 0] (by decide) rfl 58 dX4_wordAt_56 rfl ?_
          refine g_goto K 20 dX4_wordAt_58 (by decide) ?_
          exact h17 (j15 + (nI 1))
        · exact h6 j15
/-- isDigit(I)Z -/
def m_isDigit (μ : Mem) (x1 : Int32) : Option (Bool) :=
  (m_isIn μ x1 (nI 48) (nI 57)).bind fun r1 =>
  some r1
theorem wd_isDigit : yX4_isDigit.cls = RX4 ∧ yX4_isDigit.cls ≠ "java/lang/invoke/MethodHandle" ∧ yX4_isDigit.cls ≠ "java/lang/invoke/VarHandle" ∧ (parseMethodDescriptor yX4_isDigit.desc).map (fun d => d.parameters.length) = some 1 := by decide +kernel
set_option maxRecDepth 100000 in
theorem ct_isDigit (μ : Mem) (x1 : Int32) : CtM yX4_isDigit cX4_isDigit 2 (some .boolean) 1 23 [.int x1] μ (fun r => (some (.int (bI r)), μ)) (m_isDigit μ x1) := by
  refine CtM.of (by decide) rfl (fun _ => Nat.le_of_ble_eq_true rfl) ?_
  intro l D cl ci cA am p e s m args below meth c hcl K hr hlk hK
  refine g_sub (ls' := [(0, .ref am), (1, .int x1)]) [0, 1] rfl ?_
  unfold m_isDigit
  refine g_aloadn K 0 rfl rfl 1 dX4_isDigit_0 rfl ?_
  refine g_iloadn K 1 rfl rfl 2 dX4_isDigit_1 rfl ?_
  refine g_bipush K (nI 48) bp_48 4 dX4_isDigit_2 rfl ?_
  refine g_bipush K (nI 57) bp_57 6 dX4_isDigit_4 rfl ?_
  refine gm_call K hK hcl 9 (ct_isIn μ x1 (nI 48) (nI 57)) (lw_V q1723 q1725 qs55 q158 q1726) wd_isIn (by decide) rfl (Nat.le_of_ble_eq_true rfl) dX4_isDigit_6 rfl (fun r1 _ => ?_)
  exact gm_zret K hK hcl hr hlk (b := r1) dX4_isDigit_9 rfl rfl
/-- isMarkSign(I)Z -/
def m_isMarkSign (μ : Mem) (x1 : Int32) : Option (Bool) :=
  if x1 = (nI 59) then
  some true
  else
  if x1 = (nI 43) then
  some true
  else
  if x1 = (nI 45) then
  some true
  else
  if x1 = (nI 42) then
  some true
  else
  if x1 = (nI 47) then
  some true
  else
  if x1 = (nI 40) then
  some true
  else
  if x1 = (nI 41) then
  some true
  else
  if x1 = (nI 60) then
  some true
  else
  if x1 = (nI 61) then
  some true
  else
  if x1 = (nI 62) then
  some true
  else
  some false
theorem wd_isMarkSign : yX4_isMarkSign.cls = RX4 ∧ yX4_isMarkSign.cls ≠ "java/lang/invoke/MethodHandle" ∧ yX4_isMarkSign.cls ≠ "java/lang/invoke/VarHandle" ∧ (parseMethodDescriptor yX4_isMarkSign.desc).map (fun d => d.parameters.length) = some 1 := by decide +kernel
set_option maxRecDepth 100000 in
theorem ct_isMarkSign (μ : Mem) (x1 : Int32) : CtM yX4_isMarkSign cX4_isMarkSign 2 (some .boolean) 0 0 [.int x1] μ (fun r => (some (.int (bI r)), μ)) (m_isMarkSign μ x1) := by
  refine CtM.of (by decide) rfl (fun _ => Nat.le_of_ble_eq_true rfl) ?_
  intro l D cl ci cA am p e s m args below meth c hcl K hr hlk hK
  refine g_sub (ls' := [(0, .ref am), (1, .int x1)]) [0, 1] rfl ?_
  unfold m_isMarkSign
  refine g_iloadn K 1 rfl rfl 1 dX4_isMarkSign_0 rfl ?_
  refine g_bipush K (nI 59) bp_59 3 dX4_isMarkSign_1 rfl ?_
  refine g_icmp_eq K 6 60 dX4_isMarkSign_3 rfl (by decide) (fun _ => ?_) (fun _ => ?_)
  · refine g_iconst K (nI 1) ic_1 61 dX4_isMarkSign_60 rfl ?_
    refine g_goto K 65 dX4_isMarkSign_61 (by decide) ?_
    exact gm_zret K hK hcl hr hlk (b := true) dX4_isMarkSign_65 rfl rfl
  · refine g_iloadn K 1 rfl rfl 7 dX4_isMarkSign_6 rfl ?_
    refine g_bipush K (nI 43) bp_43 9 dX4_isMarkSign_7 rfl ?_
    refine g_icmp_eq K 12 60 dX4_isMarkSign_9 rfl (by decide) (fun _ => ?_) (fun _ => ?_)
    · refine g_iconst K (nI 1) ic_1 61 dX4_isMarkSign_60 rfl ?_
      refine g_goto K 65 dX4_isMarkSign_61 (by decide) ?_
      exact gm_zret K hK hcl hr hlk (b := true) dX4_isMarkSign_65 rfl rfl
    · refine g_iloadn K 1 rfl rfl 13 dX4_isMarkSign_12 rfl ?_
      refine g_bipush K (nI 45) bp_45 15 dX4_isMarkSign_13 rfl ?_
      refine g_icmp_eq K 18 60 dX4_isMarkSign_15 rfl (by decide) (fun _ => ?_) (fun _ => ?_)
      · refine g_iconst K (nI 1) ic_1 61 dX4_isMarkSign_60 rfl ?_
        refine g_goto K 65 dX4_isMarkSign_61 (by decide) ?_
        exact gm_zret K hK hcl hr hlk (b := true) dX4_isMarkSign_65 rfl rfl
      · refine g_iloadn K 1 rfl rfl 19 dX4_isMarkSign_18 rfl ?_
        refine g_bipush K (nI 42) bp_42 21 dX4_isMarkSign_19 rfl ?_
        refine g_icmp_eq K 24 60 dX4_isMarkSign_21 rfl (by decide) (fun _ => ?_) (fun _ => ?_)
        · refine g_iconst K (nI 1) ic_1 61 dX4_isMarkSign_60 rfl ?_
          refine g_goto K 65 dX4_isMarkSign_61 (by decide) ?_
          exact gm_zret K hK hcl hr hlk (b := true) dX4_isMarkSign_65 rfl rfl
        · refine g_iloadn K 1 rfl rfl 25 dX4_isMarkSign_24 rfl ?_
          refine g_bipush K (nI 47) bp_47 27 dX4_isMarkSign_25 rfl ?_
          refine g_icmp_eq K 30 60 dX4_isMarkSign_27 rfl (by decide) (fun _ => ?_) (fun _ => ?_)
          · refine g_iconst K (nI 1) ic_1 61 dX4_isMarkSign_60 rfl ?_
            refine g_goto K 65 dX4_isMarkSign_61 (by decide) ?_
            exact gm_zret K hK hcl hr hlk (b := true) dX4_isMarkSign_65 rfl rfl
          · refine g_iloadn K 1 rfl rfl 31 dX4_isMarkSign_30 rfl ?_
            refine g_bipush K (nI 40) bp_40 33 dX4_isMarkSign_31 rfl ?_
            refine g_icmp_eq K 36 60 dX4_isMarkSign_33 rfl (by decide) (fun _ => ?_) (fun _ => ?_)
            · refine g_iconst K (nI 1) ic_1 61 dX4_isMarkSign_60 rfl ?_
              refine g_goto K 65 dX4_isMarkSign_61 (by decide) ?_
              exact gm_zret K hK hcl hr hlk (b := true) dX4_isMarkSign_65 rfl rfl
            · refine g_iloadn K 1 rfl rfl 37 dX4_isMarkSign_36 rfl ?_
              refine g_bipush K (nI 41) bp_41 39 dX4_isMarkSign_37 rfl ?_
              refine g_icmp_eq K 42 60 dX4_isMarkSign_39 rfl (by decide) (fun _ => ?_) (fun _ => ?_)
              · refine g_iconst K (nI 1) ic_1 61 dX4_isMarkSign_60 rfl ?_
                refine g_goto K 65 dX4_isMarkSign_61 (by decide) ?_
                exact gm_zret K hK hcl hr hlk (b := true) dX4_isMarkSign_65 rfl rfl
              · refine g_iloadn K 1 rfl rfl 43 dX4_isMarkSign_42 rfl ?_
                refine g_bipush K (nI 60) bp_60 45 dX4_isMarkSign_43 rfl ?_
                refine g_icmp_eq K 48 60 dX4_isMarkSign_45 rfl (by decide) (fun _ => ?_) (fun _ => ?_)
                · refine g_iconst K (nI 1) ic_1 61 dX4_isMarkSign_60 rfl ?_
                  refine g_goto K 65 dX4_isMarkSign_61 (by decide) ?_
                  exact gm_zret K hK hcl hr hlk (b := true) dX4_isMarkSign_65 rfl rfl
                · refine g_iloadn K 1 rfl rfl 49 dX4_isMarkSign_48 rfl ?_
                  refine g_bipush K (nI 61) bp_61 51 dX4_isMarkSign_49 rfl ?_
                  refine g_icmp_eq K 54 60 dX4_isMarkSign_51 rfl (by decide) (fun _ => ?_) (fun _ => ?_)
                  · refine g_iconst K (nI 1) ic_1 61 dX4_isMarkSign_60 rfl ?_
                    refine g_goto K 65 dX4_isMarkSign_61 (by decide) ?_
                    exact gm_zret K hK hcl hr hlk (b := true) dX4_isMarkSign_65 rfl rfl
                  · refine g_iloadn K 1 rfl rfl 55 dX4_isMarkSign_54 rfl ?_
                    refine g_bipush K (nI 62) bp_62 57 dX4_isMarkSign_55 rfl ?_
                    refine g_icmp_ne K 60 64 dX4_isMarkSign_57 rfl (by decide) (fun _ => ?_) (fun _ => ?_)
                    · refine g_iconst K (nI 1) ic_1 61 dX4_isMarkSign_60 rfl ?_
                      refine g_goto K 65 dX4_isMarkSign_61 (by decide) ?_
                      exact gm_zret K hK hcl hr hlk (b := true) dX4_isMarkSign_65 rfl rfl
                    · refine g_iconst K (nI 0) ic_0 65 dX4_isMarkSign_64 rfl ?_
                      exact gm_zret K hK hcl hr hlk (b := false) dX4_isMarkSign_65 rfl rfl
/-- reads()V -/
def m_reads (μ : Mem) : Option (Mem) :=
  jn (fun (j1 : Mem) =>
  nm (up2 j1 13 0 (j1 12 0)) fun μ4 =>
  nm (up2 μ4 14 0 (nI 1)) fun μ5 =>
  (m_raw μ5 (μ5 12 0)).bind fun r6 =>
  if r6 = (-1 : Int32) then
  nm (up2 μ5 14 0 (nI 0)) fun μ41 =>
  some μ41
  else
  nm (up2 μ5 12 0 ((μ5 12 0) + (nI 1))) fun μ7 =>
  nm (up2 μ7 15 0 r6) fun μ8 =>
  (m_isLetter μ8 r6).bind fun r9 =>
  if (bI r9) = 0 then
  (m_isDigit μ8 r6).bind fun r10 =>
  if (bI r10) = 0 then
  (m_isMarkSign μ8 r6).bind fun r11 =>
  if (bI r11) = 0 then
  some μ8
  else
  nm (up2 μ8 14 0 (nI 4)) fun μ12 =>
  some μ12
  else
  nm (up2 μ8 15 0 (r6 - (nI 48))) fun μ13 =>
  jn (fun (j14 : Mem) =>
  if (nI 5) ≤ ((j14 12 0) - (j14 13 0)) then
  some j14
  else
  nm (up2 j14 14 0 (nI 3)) fun μ17 =>
  some μ17) (fun k15 =>
  lp (fun again19 (j18 : Mem) =>
  (m_raw j18 (j18 12 0)).bind fun r21 =>
  (m_isDigit j18 r21).bind fun r22 =>
  if (bI r22) = 0 then
  k15 j18
  else
  jn (fun (j23 : Int32) =>
  nm (up2 j18 15 0 j23) fun μ26 =>
  nm (up2 μ26 12 0 ((μ26 12 0) + (nI 1))) fun μ27 =>
  again19 μ27) (fun k24 =>
  if (nI 10000) ≤ (j18 15 0) then
  k24 (j18 15 0)
  else
  (m_raw j18 (j18 12 0)).bind fun r28 =>
  k24 ((((nI 10) * (j18 15 0)) + r28) - (nI 48)))) fuel μ13)
  else
  jn (fun (j29 : Mem) =>
  (m_wordAt j29 (j29 13 0) (j29 12 0)).bind fun r32 =>
  nm (up2 j29 15 0 r32) fun μ33 =>
  if (μ33 15 0) = (-1 : Int32) then
  some μ33
  else
  nm (up2 μ33 14 0 (nI 2)) fun μ34 =>
  some μ34) (fun k30 =>
  lp (fun again36 (j35 : Mem) =>
  (m_raw j35 (j35 12 0)).bind fun r38 =>
  (m_isLetter j35 r38).bind fun r39 =>
  if (bI r39) = 0 then
  k30 j35
  else
  nm (up2 j35 12 0 ((j35 12 0) + (nI 1))) fun μ40 =>
  again36 μ40) fuel μ8)) (fun k2 =>
  lp (fun again43 (j42 : Mem) =>
  (m_raw j42 (j42 12 0)).bind fun r45 =>
  jn (fun (j46 : Unit) =>
  nm (up2 j42 12 0 ((j42 12 0) + (nI 1))) fun μ49 =>
  again43 μ49) (fun k47 =>
  if r45 = (nI 32) then
  k47 ()
  else
  (m_raw j42 (j42 12 0)).bind fun r50 =>
  if r50 = (nI 10) then
  k47 ()
  else
  k2 j42)) fuel μ)
theorem wd_reads : yX4_reads.cls = RX4 ∧ yX4_reads.cls ≠ "java/lang/invoke/MethodHandle" ∧ yX4_reads.cls ≠ "java/lang/invoke/VarHandle" ∧ (parseMethodDescriptor yX4_reads.desc).map (fun d => d.parameters.length) = some 0 := by decide +kernel
set_option maxRecDepth 100000 in
theorem ct_reads (μ : Mem) : CtM yX4_reads cX4_reads 2 none 2 44 [] μ (fun r => (none, r)) (m_reads μ) := by
  refine CtM.of (by decide) rfl (fun _ => Nat.le_of_ble_eq_true rfl) ?_
  intro l D cl ci cA am p e s m args below meth c hcl K hr hlk hK
  refine g_sub (ls' := [(0, .ref am)]) [0] rfl ?_
  unfold m_reads
  refine g_jn (head := 39) (L := fun j1 => [(0, .ref am)]) (sf := fun j1 => []) (mf := fun j1 => j1) (fun j1 => ?_) (fun k2 h3 => ?_)
  · try dsimp only
    refine g_aloadn K 0 rfl rfl 40 dX4_reads_39 rfl ?_
    refine g_aloadn K 0 rfl rfl 41 dX4_reads_40 rfl ?_
    refine gm_get K hK hcl 12 44 (by decide) q1497 rfl dX4_reads_41 rfl ?_
    refine gm_put K hK hcl 13 (ty := .int) 47 (by decide) q1498 rfl (by decide +kernel) rfl rfl rfl dX4_reads_44 rfl (fun μ4 _ => ?_)
    refine g_aloadn K 0 rfl rfl 48 dX4_reads_47 rfl ?_
    refine g_iconst K (nI 1) ic_1 49 dX4_reads_48 rfl ?_
    refine gm_put K hK hcl 14 (ty := .int) 52 (by decide) q1499 rfl (by decide +kernel) rfl rfl rfl dX4_reads_49 rfl (fun μ5 _ => ?_)
    refine g_aloadn K 0 rfl rfl 53 dX4_reads_52 rfl ?_
    refine g_aloadn K 0 rfl rfl 54 dX4_reads_53 rfl ?_
    refine gm_get K hK hcl 12 57 (by decide) q1497 rfl dX4_reads_54 rfl ?_
    refine gm_call K hK hcl 60 (ct_raw μ5 (μ5 12 0)) (lw_V q1771 q1773 qs63 q158 q1774) wd_raw (by decide) rfl (Nat.le_of_ble_eq_true rfl) dX4_reads_57 rfl (fun r6 _ => ?_)
    refine g_istoren K [(0, .ref am), (1, .int r6)] [1, 0] rfl (by decide) rfl 61 dX4_reads_60 rfl ?_
    refine g_iloadn K 1 rfl rfl 62 dX4_reads_61 rfl ?_
    refine g_iconst K (-1 : Int32) ic_m1 63 dX4_reads_62 rfl ?_
    refine g_icmp_ne K 66 72 dX4_reads_63 rfl (by decide) (fun _ => ?_) (fun _ => ?_)
    · refine g_aloadn K 0 rfl rfl 67 dX4_reads_66 rfl ?_
      refine g_iconst K (nI 0) ic_0 68 dX4_reads_67 rfl ?_
      refine gm_put K hK hcl 14 (ty := .int) 71 (by decide) q1499 rfl (by decide +kernel) rfl rfl rfl dX4_reads_68 rfl (fun μ41 _ => ?_)
      exact gm_vret K hK hcl hr hlk dX4_reads_71 rfl
    · refine g_aloadn K 0 rfl rfl 73 dX4_reads_72 rfl ?_
      refine g_aloadn K 0 rfl rfl 74 dX4_reads_73 rfl ?_
      refine gm_get K hK hcl 12 77 (by decide) q1497 rfl dX4_reads_74 rfl ?_
      refine g_iconst K (nI 1) ic_1 78 dX4_reads_77 rfl ?_
      refine g_iadd K 79 dX4_reads_78 rfl ?_
      refine gm_put K hK hcl 12 (ty := .int) 82 (by decide) q1497 rfl (by decide +kernel) rfl rfl rfl dX4_reads_79 rfl (fun μ7 _ => ?_)
      refine g_aloadn K 0 rfl rfl 83 dX4_reads_82 rfl ?_
      refine g_iloadn K 1 rfl rfl 84 dX4_reads_83 rfl ?_
      refine gm_put K hK hcl 15 (ty := .int) 87 (by decide) q1500 rfl (by decide +kernel) rfl rfl rfl dX4_reads_84 rfl (fun μ8 _ => ?_)
      refine g_aloadn K 0 rfl rfl 88 dX4_reads_87 rfl ?_
      refine g_iloadn K 1 rfl rfl 89 dX4_reads_88 rfl ?_
      refine gm_call K hK hcl 92 (ct_isLetter μ8 r6) (lw_V q1775 q1777 qs64 q158 q1778) wd_isLetter (by decide) rfl (Nat.le_of_ble_eq_true rfl) dX4_reads_89 rfl (fun r9 _ => ?_)
      refine g_if_eq K 95 155 dX4_reads_92 rfl (by decide) (fun _ => ?_) (fun _ => ?_)
      · refine g_aloadn K 0 rfl rfl 156 dX4_reads_155 rfl ?_
        refine g_iloadn K 1 rfl rfl 157 dX4_reads_156 rfl ?_
        refine gm_call K hK hcl 160 (ct_isDigit μ8 r6) (lw_V q1783 q1785 qs66 q158 q1786) wd_isDigit (by decide) rfl (Nat.le_of_ble_eq_true rfl) dX4_reads_157 rfl (fun r10 _ => ?_)
        refine g_if_eq K 163 260 dX4_reads_160 rfl (by decide) (fun _ => ?_) (fun _ => ?_)
        · refine g_aloadn K 0 rfl rfl 261 dX4_reads_260 rfl ?_
          refine g_iloadn K 1 rfl rfl 262 dX4_reads_261 rfl ?_
          refine gm_call K hK hcl 265 (ct_isMarkSign μ8 r6) (lw_V q1787 q1789 qs67 q158 q1790) wd_isMarkSign (by decide) rfl (Nat.le_of_ble_eq_true rfl) dX4_reads_262 rfl (fun r11 _ => ?_)
          refine g_if_eq K 268 273 dX4_reads_265 rfl (by decide) (fun _ => ?_) (fun _ => ?_)
          · exact gm_vret K hK hcl hr hlk dX4_reads_273 rfl
          · refine g_aloadn K 0 rfl rfl 269 dX4_reads_268 rfl ?_
            refine g_iconst K (nI 4) ic_4 270 dX4_reads_269 rfl ?_
            refine gm_put K hK hcl 14 (ty := .int) 273 (by decide) q1499 rfl (by decide +kernel) rfl rfl rfl dX4_reads_270 rfl (fun μ12 _ => ?_)
            exact gm_vret K hK hcl hr hlk dX4_reads_273 rfl
        · refine g_aloadn K 0 rfl rfl 164 dX4_reads_163 rfl ?_
          refine g_iloadn K 1 rfl rfl 165 dX4_reads_164 rfl ?_
          refine g_bipush K (nI 48) bp_48 167 dX4_reads_165 rfl ?_
          refine g_isub K 168 dX4_reads_167 rfl ?_
          refine gm_put K hK hcl 15 (ty := .int) 171 (by decide) q1500 rfl (by decide +kernel) rfl rfl rfl dX4_reads_168 rfl (fun μ13 _ => ?_)
          refine g_jn (head := 239) (L := fun j14 => [(0, .ref am)]) (sf := fun j14 => []) (mf := fun j14 => j14) (fun j14 => ?_) (fun k15 h16 => ?_)
          · try dsimp only
            refine g_aloadn K 0 rfl rfl 240 dX4_reads_239 rfl ?_
            refine gm_get K hK hcl 12 243 (by decide) q1497 rfl dX4_reads_240 rfl ?_
            refine g_aloadn K 0 rfl rfl 244 dX4_reads_243 rfl ?_
            refine gm_get K hK hcl 13 247 (by decide) q1498 rfl dX4_reads_244 rfl ?_
            refine g_isub K 248 dX4_reads_247 rfl ?_
            refine g_iconst K (nI 5) ic_5 249 dX4_reads_248 rfl ?_
            refine g_icmp_ge K 252 273 dX4_reads_249 rfl (by decide) (fun _ => ?_) (fun _ => ?_)
            · exact gm_vret K hK hcl hr hlk dX4_reads_273 rfl
            · refine g_aloadn K 0 rfl rfl 253 dX4_reads_252 rfl ?_
              refine g_iconst K (nI 3) ic_3 254 dX4_reads_253 rfl ?_
              refine gm_put K hK hcl 14 (ty := .int) 257 (by decide) q1499 rfl (by decide +kernel) rfl rfl rfl dX4_reads_254 rfl (fun μ17 _ => ?_)
              refine g_goto K 273 dX4_reads_257 (by decide) ?_
              exact gm_vret K hK hcl hr hlk dX4_reads_273 rfl
          · refine g_sub (ls' := [(0, .ref am)]) [0] rfl ?_
            refine g_lp (head := 171) (L := fun j18 => [(0, .ref am)]) (sf := fun j18 => []) (mf := fun j18 => j18) (fun again19 h20 j18 => ?_) fuel μ13
            try dsimp only
            refine g_aloadn K 0 rfl rfl 172 dX4_reads_171 rfl ?_
            refine g_aloadn K 0 rfl rfl 173 dX4_reads_172 rfl ?_
            refine g_aloadn K 0 rfl rfl 174 dX4_reads_173 rfl ?_
            refine gm_get K hK hcl 12 177 (by decide) q1497 rfl dX4_reads_174 rfl ?_
            refine gm_call K hK hcl 180 (ct_raw j18 (j18 12 0)) (lw_V q1771 q1773 qs63 q158 q1774) wd_raw (by decide) rfl (Nat.le_of_ble_eq_true rfl) dX4_reads_177 rfl (fun r21 _ => ?_)
            refine gm_call K hK hcl 183 (ct_isDigit j18 r21) (lw_V q1783 q1785 qs66 q158 q1786) wd_isDigit (by decide) rfl (Nat.le_of_ble_eq_true rfl) dX4_reads_180 rfl (fun r22 _ => ?_)
            refine g_if_eq K 186 239 dX4_reads_183 rfl (by decide) (fun _ => ?_) (fun _ => ?_)
            · exact h16 j18
            · refine g_aloadn K 0 rfl rfl 187 dX4_reads_186 rfl ?_
              refine g_aloadn K 0 rfl rfl 188 dX4_reads_187 rfl ?_
              refine gm_get K hK hcl 15 191 (by decide) q1500 rfl dX4_reads_188 rfl ?_
              refine g_sipush K (nI 10000) sp_10000 194 dX4_reads_191 rfl ?_
              refine g_jn (head := 223) (L := fun j23 => [(0, .ref am)]) (sf := fun j23 => [.int j23, .ref am]) (mf := fun j23 => j18) (fun j23 => ?_) (fun k24 h25 => ?_)
              · try dsimp only
                refine gm_put K hK hcl 15 (ty := .int) 226 (by decide) q1500 rfl (by decide +kernel) rfl rfl rfl dX4_reads_223 rfl (fun μ26 _ => ?_)
                refine g_aloadn K 0 rfl rfl 227 dX4_reads_226 rfl ?_
                refine g_aloadn K 0 rfl rfl 228 dX4_reads_227 rfl ?_
                refine gm_get K hK hcl 12 231 (by decide) q1497 rfl dX4_reads_228 rfl ?_
                refine g_iconst K (nI 1) ic_1 232 dX4_reads_231 rfl ?_
                refine g_iadd K 233 dX4_reads_232 rfl ?_
                refine gm_put K hK hcl 12 (ty := .int) 236 (by decide) q1497 rfl (by decide +kernel) rfl rfl rfl dX4_reads_233 rfl (fun μ27 _ => ?_)
                refine g_goto K 171 dX4_reads_236 (by decide) ?_
                exact h20 μ27
              · refine g_icmp_ge K 197 219 dX4_reads_194 rfl (by decide) (fun _ => ?_) (fun _ => ?_)
                · refine g_aloadn K 0 rfl rfl 220 dX4_reads_219 rfl ?_
                  refine gm_get K hK hcl 15 223 (by decide) q1500 rfl dX4_reads_220 rfl ?_
                  exact h25 (j18 15 0)
                · refine g_bipush K (nI 10) bp_10 199 dX4_reads_197 rfl ?_
                  refine g_aloadn K 0 rfl rfl 200 dX4_reads_199 rfl ?_
                  refine gm_get K hK hcl 15 203 (by decide) q1500 rfl dX4_reads_200 rfl ?_
                  refine g_imul K 204 dX4_reads_203 rfl ?_
                  refine g_aloadn K 0 rfl rfl 205 dX4_reads_204 rfl ?_
                  refine g_aloadn K 0 rfl rfl 206 dX4_reads_205 rfl ?_
                  refine gm_get K hK hcl 12 209 (by decide) q1497 rfl dX4_reads_206 rfl ?_
                  refine gm_call K hK hcl 212 (ct_raw j18 (j18 12 0)) (lw_V q1771 q1773 qs63 q158 q1774) wd_raw (by decide) rfl (Nat.le_of_ble_eq_true rfl) dX4_reads_209 rfl (fun r28 _ => ?_)
                  refine g_iadd K 213 dX4_reads_212 rfl ?_
                  refine g_bipush K (nI 48) bp_48 215 dX4_reads_213 rfl ?_
                  refine g_isub K 216 dX4_reads_215 rfl ?_
                  refine g_goto K 223 dX4_reads_216 (by decide) ?_
                  exact h25 ((((nI 10) * (j18 15 0)) + r28) - (nI 48))
      · refine g_jn (head := 123) (L := fun j29 => [(0, .ref am)]) (sf := fun j29 => []) (mf := fun j29 => j29) (fun j29 => ?_) (fun k30 h31 => ?_)
        · try dsimp only
          refine g_aloadn K 0 rfl rfl 124 dX4_reads_123 rfl ?_
          refine g_aloadn K 0 rfl rfl 125 dX4_reads_124 rfl ?_
          refine g_aloadn K 0 rfl rfl 126 dX4_reads_125 rfl ?_
          refine gm_get K hK hcl 13 129 (by decide) q1498 rfl dX4_reads_126 rfl ?_
          refine g_aloadn K 0 rfl rfl 130 dX4_reads_129 rfl ?_
          refine gm_get K hK hcl 12 133 (by decide) q1497 rfl dX4_reads_130 rfl ?_
          refine gm_call K hK hcl 136 (ct_wordAt j29 (j29 13 0) (j29 12 0)) (lw_V q1779 q1781 qs65 q158 q1782) wd_wordAt (by decide) rfl (Nat.le_of_ble_eq_true rfl) dX4_reads_133 rfl (fun r32 _ => ?_)
          refine gm_put K hK hcl 15 (ty := .int) 139 (by decide) q1500 rfl (by decide +kernel) rfl rfl rfl dX4_reads_136 rfl (fun μ33 _ => ?_)
          refine g_aloadn K 0 rfl rfl 140 dX4_reads_139 rfl ?_
          refine gm_get K hK hcl 15 143 (by decide) q1500 rfl dX4_reads_140 rfl ?_
          refine g_iconst K (-1 : Int32) ic_m1 144 dX4_reads_143 rfl ?_
          refine g_icmp_eq K 147 273 dX4_reads_144 rfl (by decide) (fun _ => ?_) (fun _ => ?_)
          · exact gm_vret K hK hcl hr hlk dX4_reads_273 rfl
          · refine g_aloadn K 0 rfl rfl 148 dX4_reads_147 rfl ?_
            refine g_iconst K (nI 2) ic_2 149 dX4_reads_148 rfl ?_
            refine gm_put K hK hcl 14 (ty := .int) 152 (by decide) q1499 rfl (by decide +kernel) rfl rfl rfl dX4_reads_149 rfl (fun μ34 _ => ?_)
            refine g_goto K 273 dX4_reads_152 (by decide) ?_
            exact gm_vret K hK hcl hr hlk dX4_reads_273 rfl
        · refine g_sub (ls' := [(0, .ref am)]) [0] rfl ?_
          refine g_lp (head := 95) (L := fun j35 => [(0, .ref am)]) (sf := fun j35 => []) (mf := fun j35 => j35) (fun again36 h37 j35 => ?_) fuel μ8
          try dsimp only
          refine g_aloadn K 0 rfl rfl 96 dX4_reads_95 rfl ?_
          refine g_aloadn K 0 rfl rfl 97 dX4_reads_96 rfl ?_
          refine g_aloadn K 0 rfl rfl 98 dX4_reads_97 rfl ?_
          refine gm_get K hK hcl 12 101 (by decide) q1497 rfl dX4_reads_98 rfl ?_
          refine gm_call K hK hcl 104 (ct_raw j35 (j35 12 0)) (lw_V q1771 q1773 qs63 q158 q1774) wd_raw (by decide) rfl (Nat.le_of_ble_eq_true rfl) dX4_reads_101 rfl (fun r38 _ => ?_)
          refine gm_call K hK hcl 107 (ct_isLetter j35 r38) (lw_V q1775 q1777 qs64 q158 q1778) wd_isLetter (by decide) rfl (Nat.le_of_ble_eq_true rfl) dX4_reads_104 rfl (fun r39 _ => ?_)
          refine g_if_eq K 110 123 dX4_reads_107 rfl (by decide) (fun _ => ?_) (fun _ => ?_)
          · exact h31 j35
          · refine g_aloadn K 0 rfl rfl 111 dX4_reads_110 rfl ?_
            refine g_aloadn K 0 rfl rfl 112 dX4_reads_111 rfl ?_
            refine gm_get K hK hcl 12 115 (by decide) q1497 rfl dX4_reads_112 rfl ?_
            refine g_iconst K (nI 1) ic_1 116 dX4_reads_115 rfl ?_
            refine g_iadd K 117 dX4_reads_116 rfl ?_
            refine gm_put K hK hcl 12 (ty := .int) 120 (by decide) q1497 rfl (by decide +kernel) rfl rfl rfl dX4_reads_117 rfl (fun μ40 _ => ?_)
            refine g_goto K 95 dX4_reads_120 (by decide) ?_
            exact h37 μ40
  · refine g_lp (head := 0) (L := fun j42 => [(0, .ref am)]) (sf := fun j42 => []) (mf := fun j42 => j42) (fun again43 h44 j42 => ?_) fuel μ
    try dsimp only
    refine g_aloadn K 0 rfl rfl 1 dX4_reads_0 rfl ?_
    refine g_aloadn K 0 rfl rfl 2 dX4_reads_1 rfl ?_
    refine gm_get K hK hcl 12 5 (by decide) q1497 rfl dX4_reads_2 rfl ?_
    refine gm_call K hK hcl 8 (ct_raw j42 (j42 12 0)) (lw_V q1771 q1773 qs63 q158 q1774) wd_raw (by decide) rfl (Nat.le_of_ble_eq_true rfl) dX4_reads_5 rfl (fun r45 _ => ?_)
    refine g_bipush K (nI 32) bp_32 10 dX4_reads_8 rfl ?_
    refine g_jn (head := 26) (L := fun j46 => [(0, .ref am)]) (sf := fun j46 => []) (mf := fun j46 => j42) (fun j46 => ?_) (fun k47 h48 => ?_)
    · try dsimp only
      refine g_aloadn K 0 rfl rfl 27 dX4_reads_26 rfl ?_
      refine g_aloadn K 0 rfl rfl 28 dX4_reads_27 rfl ?_
      refine gm_get K hK hcl 12 31 (by decide) q1497 rfl dX4_reads_28 rfl ?_
      refine g_iconst K (nI 1) ic_1 32 dX4_reads_31 rfl ?_
      refine g_iadd K 33 dX4_reads_32 rfl ?_
      refine gm_put K hK hcl 12 (ty := .int) 36 (by decide) q1497 rfl (by decide +kernel) rfl rfl rfl dX4_reads_33 rfl (fun μ49 _ => ?_)
      refine g_goto K 0 dX4_reads_36 (by decide) ?_
      exact h44 μ49
    · refine g_icmp_eq K 13 26 dX4_reads_10 rfl (by decide) (fun _ => ?_) (fun _ => ?_)
      · exact h48 ()
      · refine g_aloadn K 0 rfl rfl 14 dX4_reads_13 rfl ?_
        refine g_aloadn K 0 rfl rfl 15 dX4_reads_14 rfl ?_
        refine gm_get K hK hcl 12 18 (by decide) q1497 rfl dX4_reads_15 rfl ?_
        refine gm_call K hK hcl 21 (ct_raw j42 (j42 12 0)) (lw_V q1771 q1773 qs63 q158 q1774) wd_raw (by decide) rfl (Nat.le_of_ble_eq_true rfl) dX4_reads_18 rfl (fun r50 _ => ?_)
        refine g_bipush K (nI 10) bp_10 23 dX4_reads_21 rfl ?_
        refine g_icmp_ne K 26 39 dX4_reads_23 rfl (by decide) (fun _ => ?_) (fun _ => ?_)
        · exact h48 ()
        · exact h3 j42
/-- isWord(I)Z -/
def m_isWord (μ : Mem) (x1 : Int32) : Option (Bool) :=
  if (μ 14 0) = (nI 2) then
  if (μ 15 0) = x1 then
  some true
  else
  some false
  else
  some false
theorem wd_isWord : yX4_isWord.cls = RX4 ∧ yX4_isWord.cls ≠ "java/lang/invoke/MethodHandle" ∧ yX4_isWord.cls ≠ "java/lang/invoke/VarHandle" ∧ (parseMethodDescriptor yX4_isWord.desc).map (fun d => d.parameters.length) = some 1 := by decide +kernel
set_option maxRecDepth 100000 in
theorem ct_isWord (μ : Mem) (x1 : Int32) : CtM yX4_isWord cX4_isWord 2 (some .boolean) 0 0 [.int x1] μ (fun r => (some (.int (bI r)), μ)) (m_isWord μ x1) := by
  refine CtM.of (by decide) rfl (fun _ => Nat.le_of_ble_eq_true rfl) ?_
  intro l D cl ci cA am p e s m args below meth c hcl K hr hlk hK
  refine g_sub (ls' := [(0, .ref am), (1, .int x1)]) [0, 1] rfl ?_
  unfold m_isWord
  refine g_aloadn K 0 rfl rfl 1 dX4_isWord_0 rfl ?_
  refine gm_get K hK hcl 14 4 (by decide) q1499 rfl dX4_isWord_1 rfl ?_
  refine g_iconst K (nI 2) ic_2 5 dX4_isWord_4 rfl ?_
  refine g_icmp_ne K 8 20 dX4_isWord_5 rfl (by decide) (fun _ => ?_) (fun _ => ?_)
  · refine g_aloadn K 0 rfl rfl 9 dX4_isWord_8 rfl ?_
    refine gm_get K hK hcl 15 12 (by decide) q1500 rfl dX4_isWord_9 rfl ?_
    refine g_iloadn K 1 rfl rfl 13 dX4_isWord_12 rfl ?_
    refine g_icmp_ne K 16 20 dX4_isWord_13 rfl (by decide) (fun _ => ?_) (fun _ => ?_)
    · refine g_iconst K (nI 1) ic_1 17 dX4_isWord_16 rfl ?_
      refine g_goto K 21 dX4_isWord_17 (by decide) ?_
      exact gm_zret K hK hcl hr hlk (b := true) dX4_isWord_21 rfl rfl
    · refine g_iconst K (nI 0) ic_0 21 dX4_isWord_20 rfl ?_
      exact gm_zret K hK hcl hr hlk (b := false) dX4_isWord_21 rfl rfl
  · refine g_iconst K (nI 0) ic_0 21 dX4_isWord_20 rfl ?_
    exact gm_zret K hK hcl hr hlk (b := false) dX4_isWord_21 rfl rfl
/-- errs(I)I -/
def m_errs (μ : Mem) (x1 : Int32) : Option (Int32 × Mem) :=
  nm (up2 μ 29 0 x1) fun μ1 =>
  nm (up2 μ1 30 0 (μ1 13 0)) fun μ2 =>
  some ((-1 : Int32), μ2)
theorem wd_errs : yX4_errs.cls = RX4 ∧ yX4_errs.cls ≠ "java/lang/invoke/MethodHandle" ∧ yX4_errs.cls ≠ "java/lang/invoke/VarHandle" ∧ (parseMethodDescriptor yX4_errs.desc).map (fun d => d.parameters.length) = some 1 := by decide +kernel
set_option maxRecDepth 100000 in
theorem ct_errs (μ : Mem) (x1 : Int32) : CtM yX4_errs cX4_errs 2 (some .int) 0 0 [.int x1] μ (fun r => (some (.int r.1), r.2)) (m_errs μ x1) := by
  refine CtM.of (by decide) rfl (fun _ => Nat.le_of_ble_eq_true rfl) ?_
  intro l D cl ci cA am p e s m args below meth c hcl K hr hlk hK
  refine g_sub (ls' := [(0, .ref am), (1, .int x1)]) [0, 1] rfl ?_
  unfold m_errs
  refine g_aloadn K 0 rfl rfl 1 dX4_errs_0 rfl ?_
  refine g_iloadn K 1 rfl rfl 2 dX4_errs_1 rfl ?_
  refine gm_put K hK hcl 29 (ty := .int) 5 (by decide) q1514 rfl (by decide +kernel) rfl rfl rfl dX4_errs_2 rfl (fun μ1 _ => ?_)
  refine g_aloadn K 0 rfl rfl 6 dX4_errs_5 rfl ?_
  refine g_aloadn K 0 rfl rfl 7 dX4_errs_6 rfl ?_
  refine gm_get K hK hcl 13 10 (by decide) q1498 rfl dX4_errs_7 rfl ?_
  refine gm_put K hK hcl 30 (ty := .int) 13 (by decide) q1515 rfl (by decide +kernel) rfl rfl rfl dX4_errs_10 rfl (fun μ2 _ => ?_)
  refine g_iconst K (-1 : Int32) ic_m1 14 dX4_errs_13 rfl ?_
  exact gm_iret K hK hcl hr hlk dX4_errs_14 rfl
/-- readNumber(II)I -/
def m_readNumber (μ : Mem) (x1 : Int32) (x2 : Int32) : Option (Int32 × Mem) :=
  if (μ 14 0) = (nI 3) then
  (m_isIn μ (μ 15 0) x1 x2).bind fun r1 =>
  if (bI r1) = 0 then
  (m_errs μ (nI 2)).bind fun r3 =>
  some (r3.1, r3.2)
  else
  (m_reads μ).bind fun r2 =>
  some ((μ 15 0), r2)
  else
  (m_errs μ (nI 1)).bind fun r4 =>
  some (r4.1, r4.2)
theorem wd_readNumber : yX4_readNumber.cls = RX4 ∧ yX4_readNumber.cls ≠ "java/lang/invoke/MethodHandle" ∧ yX4_readNumber.cls ≠ "java/lang/invoke/VarHandle" ∧ (parseMethodDescriptor yX4_readNumber.desc).map (fun d => d.parameters.length) = some 2 := by decide +kernel
set_option maxRecDepth 100000 in
theorem ct_readNumber (μ : Mem) (x1 : Int32) (x2 : Int32) : CtM yX4_readNumber cX4_readNumber 4 (some .int) 3 65 [.int x1, .int x2] μ (fun r => (some (.int r.1), r.2)) (m_readNumber μ x1 x2) := by
  refine CtM.of (by decide) rfl (fun _ => Nat.le_of_ble_eq_true rfl) ?_
  intro l D cl ci cA am p e s m args below meth c hcl K hr hlk hK
  refine g_sub (ls' := [(0, .ref am), (1, .int x1), (2, .int x2)]) [0, 1, 2] rfl ?_
  unfold m_readNumber
  refine g_aloadn K 0 rfl rfl 1 dX4_readNumber_0 rfl ?_
  refine gm_get K hK hcl 14 4 (by decide) q1499 rfl dX4_readNumber_1 rfl ?_
  refine g_iconst K (nI 3) ic_3 5 dX4_readNumber_4 rfl ?_
  refine g_icmp_eq K 8 14 dX4_readNumber_5 rfl (by decide) (fun _ => ?_) (fun _ => ?_)
  · refine g_aloadn K 0 rfl rfl 15 dX4_readNumber_14 rfl ?_
    refine g_aloadn K 0 rfl rfl 16 dX4_readNumber_15 rfl ?_
    refine gm_get K hK hcl 15 19 (by decide) q1500 rfl dX4_readNumber_16 rfl ?_
    refine g_iloadn K 1 rfl rfl 20 dX4_readNumber_19 rfl ?_
    refine g_iloadn K 2 rfl rfl 21 dX4_readNumber_20 rfl ?_
    refine gm_call K hK hcl 24 (ct_isIn μ (μ 15 0) x1 x2) (lw_V q1723 q1725 qs55 q158 q1726) wd_isIn (by decide) rfl (Nat.le_of_ble_eq_true rfl) dX4_readNumber_21 rfl (fun r1 _ => ?_)
    refine g_if_ne K 27 33 dX4_readNumber_24 rfl (by decide) (fun _ => ?_) (fun _ => ?_)
    · refine g_aloadn K 0 rfl rfl 28 dX4_readNumber_27 rfl ?_
      refine g_iconst K (nI 2) ic_2 29 dX4_readNumber_28 rfl ?_
      refine gm_call K hK hcl 32 (ct_errs μ (nI 2)) (lw_V q1799 q1801 qs70 q158 q1802) wd_errs (by decide) rfl (Nat.le_of_ble_eq_true rfl) dX4_readNumber_29 rfl (fun r3 _ => ?_)
      exact gm_iret K hK hcl hr hlk dX4_readNumber_32 rfl
    · refine g_aloadn K 0 rfl rfl 34 dX4_readNumber_33 rfl ?_
      refine gm_get K hK hcl 15 37 (by decide) q1500 rfl dX4_readNumber_34 rfl ?_
      refine g_istoren K [(0, .ref am), (3, .int (μ 15 0))] [1, 0] rfl (by decide) rfl 38 dX4_readNumber_37 rfl ?_
      refine g_aloadn K 0 rfl rfl 39 dX4_readNumber_38 rfl ?_
      refine gm_call K hK hcl 42 (ct_reads μ) (lw_V q1767 q1769 qs62 q158 q1770) wd_reads (by decide) rfl (Nat.le_of_ble_eq_true rfl) dX4_readNumber_39 rfl (fun r2 _ => ?_)
      refine g_iloadn K 1 rfl rfl 43 dX4_readNumber_42 rfl ?_
      exact gm_iret K hK hcl hr hlk dX4_readNumber_43 rfl
  · refine g_aloadn K 0 rfl rfl 9 dX4_readNumber_8 rfl ?_
    refine g_iconst K (nI 1) ic_1 10 dX4_readNumber_9 rfl ?_
    refine gm_call K hK hcl 13 (ct_errs μ (nI 1)) (lw_V q1799 q1801 qs70 q158 q1802) wd_errs (by decide) rfl (Nat.le_of_ble_eq_true rfl) dX4_readNumber_10 rfl (fun r4 _ => ?_)
    exact gm_iret K hK hcl hr hlk dX4_readNumber_13 rfl
/-- readTold(III)I -/
def m_readTold (μ : Mem) (x1 : Int32) (x2 : Int32) (x3 : Int32) : Option (Int32 × Mem) :=
  (m_isWord μ x1).bind fun r1 =>
  if (bI r1) = 0 then
  (m_errs μ (nI 1)).bind fun r4 =>
  some (r4.1, r4.2)
  else
  (m_reads μ).bind fun r2 =>
  (m_readNumber r2 x2 x3).bind fun r3 =>
  some (r3.1, r3.2)
theorem wd_readTold : yX4_readTold.cls = RX4 ∧ yX4_readTold.cls ≠ "java/lang/invoke/MethodHandle" ∧ yX4_readTold.cls ≠ "java/lang/invoke/VarHandle" ∧ (parseMethodDescriptor yX4_readTold.desc).map (fun d => d.parameters.length) = some 3 := by decide +kernel
set_option maxRecDepth 100000 in
theorem ct_readTold (μ : Mem) (x1 : Int32) (x2 : Int32) (x3 : Int32) : CtM yX4_readTold cX4_readTold 4 (some .int) 4 88 [.int x1, .int x2, .int x3] μ (fun r => (some (.int r.1), r.2)) (m_readTold μ x1 x2 x3) := by
  refine CtM.of (by decide) rfl (fun _ => Nat.le_of_ble_eq_true rfl) ?_
  intro l D cl ci cA am p e s m args below meth c hcl K hr hlk hK
  refine g_sub (ls' := [(0, .ref am), (1, .int x1), (2, .int x2), (3, .int x3)]) [0, 1, 2, 3] rfl ?_
  unfold m_readTold
  refine g_aloadn K 0 rfl rfl 1 dX4_readTold_0 rfl ?_
  refine g_iloadn K 1 rfl rfl 2 dX4_readTold_1 rfl ?_
  refine gm_call K hK hcl 5 (ct_isWord μ x1) (lw_V q1795 q1797 qs69 q158 q1798) wd_isWord (by decide) rfl (Nat.le_of_ble_eq_true rfl) dX4_readTold_2 rfl (fun r1 _ => ?_)
  refine g_if_ne K 8 14 dX4_readTold_5 rfl (by decide) (fun _ => ?_) (fun _ => ?_)
  · refine g_aloadn K 0 rfl rfl 9 dX4_readTold_8 rfl ?_
    refine g_iconst K (nI 1) ic_1 10 dX4_readTold_9 rfl ?_
    refine gm_call K hK hcl 13 (ct_errs μ (nI 1)) (lw_V q1799 q1801 qs70 q158 q1802) wd_errs (by decide) rfl (Nat.le_of_ble_eq_true rfl) dX4_readTold_10 rfl (fun r4 _ => ?_)
    exact gm_iret K hK hcl hr hlk dX4_readTold_13 rfl
  · refine g_aloadn K 0 rfl rfl 15 dX4_readTold_14 rfl ?_
    refine gm_call K hK hcl 18 (ct_reads μ) (lw_V q1767 q1769 qs62 q158 q1770) wd_reads (by decide) rfl (Nat.le_of_ble_eq_true rfl) dX4_readTold_15 rfl (fun r2 _ => ?_)
    refine g_aloadn K 0 rfl rfl 19 dX4_readTold_18 rfl ?_
    refine g_iloadn K 2 rfl rfl 20 dX4_readTold_19 rfl ?_
    refine g_iloadn K 3 rfl rfl 21 dX4_readTold_20 rfl ?_
    refine gm_call K hK hcl 24 (ct_readNumber r2 x2 x3) (lw_V q1811 q1813 qs73 q158 q1814) wd_readNumber (by decide) rfl (Nat.le_of_ble_eq_true rfl) dX4_readTold_21 rfl (fun r3 _ => ?_)
    exact gm_iret K hK hcl hr hlk dX4_readTold_24 rfl
/-- isSign(I)Z -/
def m_isSign (μ : Mem) (x1 : Int32) : Option (Bool) :=
  if (μ 14 0) = (nI 4) then
  if (μ 15 0) = x1 then
  some true
  else
  some false
  else
  some false
theorem wd_isSign : yX4_isSign.cls = RX4 ∧ yX4_isSign.cls ≠ "java/lang/invoke/MethodHandle" ∧ yX4_isSign.cls ≠ "java/lang/invoke/VarHandle" ∧ (parseMethodDescriptor yX4_isSign.desc).map (fun d => d.parameters.length) = some 1 := by decide +kernel
set_option maxRecDepth 100000 in
theorem ct_isSign (μ : Mem) (x1 : Int32) : CtM yX4_isSign cX4_isSign 2 (some .boolean) 0 0 [.int x1] μ (fun r => (some (.int (bI r)), μ)) (m_isSign μ x1) := by
  refine CtM.of (by decide) rfl (fun _ => Nat.le_of_ble_eq_true rfl) ?_
  intro l D cl ci cA am p e s m args below meth c hcl K hr hlk hK
  refine g_sub (ls' := [(0, .ref am), (1, .int x1)]) [0, 1] rfl ?_
  unfold m_isSign
  refine g_aloadn K 0 rfl rfl 1 dX4_isSign_0 rfl ?_
  refine gm_get K hK hcl 14 4 (by decide) q1499 rfl dX4_isSign_1 rfl ?_
  refine g_iconst K (nI 4) ic_4 5 dX4_isSign_4 rfl ?_
  refine g_icmp_ne K 8 20 dX4_isSign_5 rfl (by decide) (fun _ => ?_) (fun _ => ?_)
  · refine g_aloadn K 0 rfl rfl 9 dX4_isSign_8 rfl ?_
    refine gm_get K hK hcl 15 12 (by decide) q1500 rfl dX4_isSign_9 rfl ?_
    refine g_iloadn K 1 rfl rfl 13 dX4_isSign_12 rfl ?_
    refine g_icmp_ne K 16 20 dX4_isSign_13 rfl (by decide) (fun _ => ?_) (fun _ => ?_)
    · refine g_iconst K (nI 1) ic_1 17 dX4_isSign_16 rfl ?_
      refine g_goto K 21 dX4_isSign_17 (by decide) ?_
      exact gm_zret K hK hcl hr hlk (b := true) dX4_isSign_21 rfl rfl
    · refine g_iconst K (nI 0) ic_0 21 dX4_isSign_20 rfl ?_
      exact gm_zret K hK hcl hr hlk (b := false) dX4_isSign_21 rfl rfl
  · refine g_iconst K (nI 0) ic_0 21 dX4_isSign_20 rfl ?_
    exact gm_zret K hK hcl hr hlk (b := false) dX4_isSign_21 rfl rfl
/-- readMark(I)I -/
def m_readMark (μ : Mem) (x1 : Int32) : Option (Int32 × Mem) :=
  (m_isSign μ x1).bind fun r1 =>
  if (bI r1) = 0 then
  (m_errs μ (nI 1)).bind fun r3 =>
  some (r3.1, r3.2)
  else
  (m_reads μ).bind fun r2 =>
  some ((nI 0), r2)
theorem wd_readMark : yX4_readMark.cls = RX4 ∧ yX4_readMark.cls ≠ "java/lang/invoke/MethodHandle" ∧ yX4_readMark.cls ≠ "java/lang/invoke/VarHandle" ∧ (parseMethodDescriptor yX4_readMark.desc).map (fun d => d.parameters.length) = some 1 := by decide +kernel
set_option maxRecDepth 100000 in
theorem ct_readMark (μ : Mem) (x1 : Int32) : CtM yX4_readMark cX4_readMark 2 (some .int) 3 65 [.int x1] μ (fun r => (some (.int r.1), r.2)) (m_readMark μ x1) := by
  refine CtM.of (by decide) rfl (fun _ => Nat.le_of_ble_eq_true rfl) ?_
  intro l D cl ci cA am p e s m args below meth c hcl K hr hlk hK
  refine g_sub (ls' := [(0, .ref am), (1, .int x1)]) [0, 1] rfl ?_
  unfold m_readMark
  refine g_aloadn K 0 rfl rfl 1 dX4_readMark_0 rfl ?_
  refine g_iloadn K 1 rfl rfl 2 dX4_readMark_1 rfl ?_
  refine gm_call K hK hcl 5 (ct_isSign μ x1) (lw_V q1819 q1821 qs75 q158 q1822) wd_isSign (by decide) rfl (Nat.le_of_ble_eq_true rfl) dX4_readMark_2 rfl (fun r1 _ => ?_)
  refine g_if_ne K 8 14 dX4_readMark_5 rfl (by decide) (fun _ => ?_) (fun _ => ?_)
  · refine g_aloadn K 0 rfl rfl 9 dX4_readMark_8 rfl ?_
    refine g_iconst K (nI 1) ic_1 10 dX4_readMark_9 rfl ?_
    refine gm_call K hK hcl 13 (ct_errs μ (nI 1)) (lw_V q1799 q1801 qs70 q158 q1802) wd_errs (by decide) rfl (Nat.le_of_ble_eq_true rfl) dX4_readMark_10 rfl (fun r3 _ => ?_)
    exact gm_iret K hK hcl hr hlk dX4_readMark_13 rfl
  · refine g_aloadn K 0 rfl rfl 15 dX4_readMark_14 rfl ?_
    refine gm_call K hK hcl 18 (ct_reads μ) (lw_V q1767 q1769 qs62 q158 q1770) wd_reads (by decide) rfl (Nat.le_of_ble_eq_true rfl) dX4_readMark_15 rfl (fun r2 _ => ?_)
    refine g_iconst K (nI 0) ic_0 19 dX4_readMark_18 rfl ?_
    exact gm_iret K hK hcl hr hlk dX4_readMark_19 rfl
/-- readSkyLine(I)I -/
def m_readSkyLine (μ : Mem) (x1 : Int32) : Option (Int32 × Mem) :=
  (m_readTold μ (nI 19) (nI 0) (nI 999)).bind fun r1 =>
  (wr r1.2 34 96 x1 r1.1).bind fun μ2 =>
  (rd μ2 34 96 x1).bind fun v3 =>
  if v3 = (-1 : Int32) then
  some ((-1 : Int32), μ2)
  else
  (m_isWord μ2 (nI 16)).bind fun r4 =>
  jn (fun (j5 : Int32) =>
  if j5 = (-1 : Int32) then
  (m_errs μ2 (nI 1)).bind fun r17 =>
  some (r17.1, r17.2)
  else
  (m_reads μ2).bind fun r8 =>
  (wr r8 34 96 (x1 + (nI 1)) j5).bind fun μ9 =>
  jn (fun (j10 : Int32 × Mem) =>
  (wr j10.2 34 96 (x1 + (nI 2)) j10.1).bind fun μ13 =>
  (rd μ13 34 96 (x1 + (nI 2))).bind fun v14 =>
  if v14 = (-1 : Int32) then
  some ((-1 : Int32), μ13)
  else
  (m_readMark μ13 (nI 59)).bind fun r15 =>
  some (r15.1, r15.2)) (fun k11 =>
  if j5 = 0 then
  (m_readNumber μ9 (nI 0) (nI 9)).bind fun r16 =>
  k11 (r16.1, r16.2)
  else
  k11 ((nI 0), μ9))) (fun k6 =>
  if (bI r4) = 0 then
  (m_isWord μ2 (nI 17)).bind fun r18 =>
  if (bI r18) = 0 then
  (m_isWord μ2 (nI 20)).bind fun r19 =>
  if (bI r19) = 0 then
  k6 (-1 : Int32)
  else
  k6 (nI 2)
  else
  k6 (nI 1)
  else
  k6 (nI 0))
theorem wd_readSkyLine : yX4_readSkyLine.cls = RX4 ∧ yX4_readSkyLine.cls ≠ "java/lang/invoke/MethodHandle" ∧ yX4_readSkyLine.cls ≠ "java/lang/invoke/VarHandle" ∧ (parseMethodDescriptor yX4_readSkyLine.desc).map (fun d => d.parameters.length) = some 1 := by decide +kernel
set_option maxRecDepth 100000 in
theorem ct_readSkyLine (μ : Mem) (x1 : Int32) : CtM yX4_readSkyLine cX4_readSkyLine 3 (some .int) 5 111 [.int x1] μ (fun r => (some (.int r.1), r.2)) (m_readSkyLine μ x1) := by
  refine CtM.of (by decide) rfl (fun _ => Nat.le_of_ble_eq_true rfl) ?_
  intro l D cl ci cA am p e s m args below meth c hcl K hr hlk hK
  refine g_sub (ls' := [(0, .ref am), (1, .int x1)]) [0, 1] rfl ?_
  unfold m_readSkyLine
  refine g_aloadn K 0 rfl rfl 1 dX4_readSkyLine_0 rfl ?_
  refine gm_get K hK hcl 34 4 (by decide) q1519 rfl dX4_readSkyLine_1 rfl ?_
  refine g_iloadn K 1 rfl rfl 5 dX4_readSkyLine_4 rfl ?_
  refine g_aloadn K 0 rfl rfl 6 dX4_readSkyLine_5 rfl ?_
  refine g_bipush K (nI 19) bp_19 8 dX4_readSkyLine_6 rfl ?_
  refine g_iconst K (nI 0) ic_0 9 dX4_readSkyLine_8 rfl ?_
  refine g_sipush K (nI 999) sp_999 12 dX4_readSkyLine_9 rfl ?_
  refine gm_call K hK hcl 15 (ct_readTold μ (nI 19) (nI 0) (nI 999)) (lw_V q1807 q1809 qs72 q158 q1810) wd_readTold (by decide) rfl (Nat.le_of_ble_eq_true rfl) dX4_readSkyLine_12 rfl (fun r1 _ => ?_)
  refine gm_ast K hK hcl 34 17 96 16 rfl (fun _ => rfl) dX4_readSkyLine_15 rfl (fun μ2 _ => ?_)
  refine g_aloadn K 0 rfl rfl 17 dX4_readSkyLine_16 rfl ?_
  refine gm_get K hK hcl 34 20 (by decide) q1519 rfl dX4_readSkyLine_17 rfl ?_
  refine g_iloadn K 1 rfl rfl 21 dX4_readSkyLine_20 rfl ?_
  refine gm_ald K hK hcl 34 17 96 22 rfl dX4_readSkyLine_21 rfl (fun v3 _ => ?_)
  refine g_iconst K (-1 : Int32) ic_m1 23 dX4_readSkyLine_22 rfl ?_
  refine g_icmp_ne K 26 28 dX4_readSkyLine_23 rfl (by decide) (fun _ => ?_) (fun _ => ?_)
  · refine g_iconst K (-1 : Int32) ic_m1 27 dX4_readSkyLine_26 rfl ?_
    exact gm_iret K hK hcl hr hlk dX4_readSkyLine_27 rfl
  · refine g_aloadn K 0 rfl rfl 29 dX4_readSkyLine_28 rfl ?_
    refine g_bipush K (nI 16) bp_16 31 dX4_readSkyLine_29 rfl ?_
    refine gm_call K hK hcl 34 (ct_isWord μ2 (nI 16)) (lw_V q1795 q1797 qs69 q158 q1798) wd_isWord (by decide) rfl (Nat.le_of_ble_eq_true rfl) dX4_readSkyLine_31 rfl (fun r4 _ => ?_)
    refine g_jn (head := 68) (L := fun j5 => [(0, .ref am), (1, .int x1)]) (sf := fun j5 => [.int j5]) (mf := fun j5 => μ2) (fun j5 => ?_) (fun k6 h7 => ?_)
    · try dsimp only
      refine g_istoren K [(0, .ref am), (1, .int x1), (2, .int j5)] [1, 2, 0] rfl (by decide) rfl 69 dX4_readSkyLine_68 rfl ?_
      refine g_iloadn K 2 rfl rfl 70 dX4_readSkyLine_69 rfl ?_
      refine g_iconst K (-1 : Int32) ic_m1 71 dX4_readSkyLine_70 rfl ?_
      refine g_icmp_ne K 74 80 dX4_readSkyLine_71 rfl (by decide) (fun _ => ?_) (fun _ => ?_)
      · refine g_aloadn K 0 rfl rfl 75 dX4_readSkyLine_74 rfl ?_
        refine g_iconst K (nI 1) ic_1 76 dX4_readSkyLine_75 rfl ?_
        refine gm_call K hK hcl 79 (ct_errs μ2 (nI 1)) (lw_V q1799 q1801 qs70 q158 q1802) wd_errs (by decide) rfl (Nat.le_of_ble_eq_true rfl) dX4_readSkyLine_76 rfl (fun r17 _ => ?_)
        exact gm_iret K hK hcl hr hlk dX4_readSkyLine_79 rfl
      · refine g_aloadn K 0 rfl rfl 81 dX4_readSkyLine_80 rfl ?_
        refine gm_call K hK hcl 84 (ct_reads μ2) (lw_V q1767 q1769 qs62 q158 q1770) wd_reads (by decide) rfl (Nat.le_of_ble_eq_true rfl) dX4_readSkyLine_81 rfl (fun r8 _ => ?_)
        refine g_aloadn K 0 rfl rfl 85 dX4_readSkyLine_84 rfl ?_
        refine gm_get K hK hcl 34 88 (by decide) q1519 rfl dX4_readSkyLine_85 rfl ?_
        refine g_iloadn K 1 rfl rfl 89 dX4_readSkyLine_88 rfl ?_
        refine g_iconst K (nI 1) ic_1 90 dX4_readSkyLine_89 rfl ?_
        refine g_iadd K 91 dX4_readSkyLine_90 rfl ?_
        refine g_iloadn K 2 rfl rfl 92 dX4_readSkyLine_91 rfl ?_
        refine gm_ast K hK hcl 34 17 96 93 rfl (fun _ => rfl) dX4_readSkyLine_92 rfl (fun μ9 _ => ?_)
        refine g_aloadn K 0 rfl rfl 94 dX4_readSkyLine_93 rfl ?_
        refine gm_get K hK hcl 34 97 (by decide) q1519 rfl dX4_readSkyLine_94 rfl ?_
        refine g_iloadn K 1 rfl rfl 98 dX4_readSkyLine_97 rfl ?_
        refine g_iconst K (nI 2) ic_2 99 dX4_readSkyLine_98 rfl ?_
        refine g_iadd K 100 dX4_readSkyLine_99 rfl ?_
        refine g_iloadn K 2 rfl rfl 101 dX4_readSkyLine_100 rfl ?_
        refine g_jn (head := 115) (L := fun j10 => [(0, .ref am), (1, .int x1)]) (sf := fun j10 => [.int j10.1, .int (x1 + (nI 2)), .ref (am + 17)]) (mf := fun j10 => j10.2) (fun j10 => ?_) (fun k11 h12 => ?_)
        · try dsimp only
          refine gm_ast K hK hcl 34 17 96 116 rfl (fun _ => rfl) dX4_readSkyLine_115 rfl (fun μ13 _ => ?_)
          refine g_aloadn K 0 rfl rfl 117 dX4_readSkyLine_116 rfl ?_
          refine gm_get K hK hcl 34 120 (by decide) q1519 rfl dX4_readSkyLine_117 rfl ?_
          refine g_iloadn K 1 rfl rfl 121 dX4_readSkyLine_120 rfl ?_
          refine g_iconst K (nI 2) ic_2 122 dX4_readSkyLine_121 rfl ?_
          refine g_iadd K 123 dX4_readSkyLine_122 rfl ?_
          refine gm_ald K hK hcl 34 17 96 124 rfl dX4_readSkyLine_123 rfl (fun v14 _ => ?_)
          refine g_iconst K (-1 : Int32) ic_m1 125 dX4_readSkyLine_124 rfl ?_
          refine g_icmp_ne K 128 132 dX4_readSkyLine_125 rfl (by decide) (fun _ => ?_) (fun _ => ?_)
          · refine g_iconst K (-1 : Int32) ic_m1 129 dX4_readSkyLine_128 rfl ?_
            refine g_goto K 138 dX4_readSkyLine_129 (by decide) ?_
            exact gm_iret K hK hcl hr hlk dX4_readSkyLine_138 rfl
          · refine g_aloadn K 0 rfl rfl 133 dX4_readSkyLine_132 rfl ?_
            refine g_bipush K (nI 59) bp_59 135 dX4_readSkyLine_133 rfl ?_
            refine gm_call K hK hcl 138 (ct_readMark μ13 (nI 59)) (lw_V q1815 q1817 qs74 q158 q1818) wd_readMark (by decide) rfl (Nat.le_of_ble_eq_true rfl) dX4_readSkyLine_135 rfl (fun r15 _ => ?_)
            exact gm_iret K hK hcl hr hlk dX4_readSkyLine_138 rfl
        · refine g_if_ne K 104 114 dX4_readSkyLine_101 rfl (by decide) (fun _ => ?_) (fun _ => ?_)
          · refine g_aloadn K 0 rfl rfl 105 dX4_readSkyLine_104 rfl ?_
            refine g_iconst K (nI 0) ic_0 106 dX4_readSkyLine_105 rfl ?_
            refine g_bipush K (nI 9) bp_9 108 dX4_readSkyLine_106 rfl ?_
            refine gm_call K hK hcl 111 (ct_readNumber μ9 (nI 0) (nI 9)) (lw_V q1811 q1813 qs73 q158 q1814) wd_readNumber (by decide) rfl (Nat.le_of_ble_eq_true rfl) dX4_readSkyLine_108 rfl (fun r16 _ => ?_)
            refine g_goto K 115 dX4_readSkyLine_111 (by decide) ?_
            refine g_sub (ls' := [(0, .ref am), (1, .int x1)]) [0, 1] rfl ?_
            exact h12 (r16.1, r16.2)
          · refine g_iconst K (nI 0) ic_0 115 dX4_readSkyLine_114 rfl ?_
            refine g_sub (ls' := [(0, .ref am), (1, .int x1)]) [0, 1] rfl ?_
            exact h12 ((nI 0), μ9)
    · refine g_if_eq K 37 41 dX4_readSkyLine_34 rfl (by decide) (fun _ => ?_) (fun _ => ?_)
      · refine g_aloadn K 0 rfl rfl 42 dX4_readSkyLine_41 rfl ?_
        refine g_bipush K (nI 17) bp_17 44 dX4_readSkyLine_42 rfl ?_
        refine gm_call K hK hcl 47 (ct_isWord μ2 (nI 17)) (lw_V q1795 q1797 qs69 q158 q1798) wd_isWord (by decide) rfl (Nat.le_of_ble_eq_true rfl) dX4_readSkyLine_44 rfl (fun r18 _ => ?_)
        refine g_if_eq K 50 54 dX4_readSkyLine_47 rfl (by decide) (fun _ => ?_) (fun _ => ?_)
        · refine g_aloadn K 0 rfl rfl 55 dX4_readSkyLine_54 rfl ?_
          refine g_bipush K (nI 20) bp_20 57 dX4_readSkyLine_55 rfl ?_
          refine gm_call K hK hcl 60 (ct_isWord μ2 (nI 20)) (lw_V q1795 q1797 qs69 q158 q1798) wd_isWord (by decide) rfl (Nat.le_of_ble_eq_true rfl) dX4_readSkyLine_57 rfl (fun r19 _ => ?_)
          refine g_if_eq K 63 67 dX4_readSkyLine_60 rfl (by decide) (fun _ => ?_) (fun _ => ?_)
          · refine g_iconst K (-1 : Int32) ic_m1 68 dX4_readSkyLine_67 rfl ?_
            exact h7 (-1 : Int32)
          · refine g_iconst K (nI 2) ic_2 64 dX4_readSkyLine_63 rfl ?_
            refine g_goto K 68 dX4_readSkyLine_64 (by decide) ?_
            exact h7 (nI 2)
        · refine g_iconst K (nI 1) ic_1 51 dX4_readSkyLine_50 rfl ?_
          refine g_goto K 68 dX4_readSkyLine_51 (by decide) ?_
          exact h7 (nI 1)
      · refine g_iconst K (nI 0) ic_0 38 dX4_readSkyLine_37 rfl ?_
        refine g_goto K 68 dX4_readSkyLine_38 (by decide) ?_
        exact h7 (nI 0)
/-- readSky()I -/
def m_readSky (μ : Mem) : Option (Int32 × Mem) :=
  jn (fun (j1 : Int32 × Mem) =>
  if (j1.2 14 0) = 0 then
  some (j1.1, j1.2)
  else
  (m_errs j1.2 (nI 1)).bind fun r4 =>
  some (r4.1, r4.2)) (fun k2 =>
  jn (fun (j5 : Mem) =>
  (m_errs j5 (nI 3)).bind fun r8 =>
  some (r8.1, r8.2)) (fun k6 =>
  lp (fun again10 (j9 : Int32 × Mem) =>
  (m_isWord j9.2 (nI 19)).bind fun r12 =>
  if (bI r12) = 0 then
  k2 (j9.1, j9.2)
  else
  if j9.1 = (nI 16) then
  k6 j9.2
  else
  (m_readSkyLine j9.2 ((nI 48) + ((nI 3) * j9.1))).bind fun r13 =>
  if r13.1 = (-1 : Int32) then
  some ((-1 : Int32), r13.2)
  else
  again10 ((j9.1 + (nI 1)), r13.2)) fuel ((nI 0), μ)))
theorem wd_readSky : yX4_readSky.cls = RX4 ∧ yX4_readSky.cls ≠ "java/lang/invoke/MethodHandle" ∧ yX4_readSky.cls ≠ "java/lang/invoke/VarHandle" ∧ (parseMethodDescriptor yX4_readSky.desc).map (fun d => d.parameters.length) = some 0 := by decide +kernel
set_option maxRecDepth 100000 in
theorem ct_readSky (μ : Mem) : CtM yX4_readSky cX4_readSky 2 (some .int) 6 133 [] μ (fun r => (some (.int r.1), r.2)) (m_readSky μ) := by
  refine CtM.of (by decide) rfl (fun _ => Nat.le_of_ble_eq_true rfl) ?_
  intro l D cl ci cA am p e s m args below meth c hcl K hr hlk hK
  refine g_sub (ls' := [(0, .ref am)]) [0] rfl ?_
  unfold m_readSky
  refine g_iconst K (nI 0) ic_0 1 dX4_readSky_0 rfl ?_
  refine g_istoren K [(0, .ref am), (1, .int (nI 0))] [1, 0] rfl (by decide) rfl 2 dX4_readSky_1 rfl ?_
  refine g_jn (head := 46) (L := fun j1 => [(0, .ref am), (1, .int j1.1)]) (sf := fun j1 => []) (mf := fun j1 => j1.2) (fun j1 => ?_) (fun k2 h3 => ?_)
  · try dsimp only
    refine g_aloadn K 0 rfl rfl 47 dX4_readSky_46 rfl ?_
    refine gm_get K hK hcl 14 50 (by decide) q1499 rfl dX4_readSky_47 rfl ?_
    refine g_if_ne K 53 57 dX4_readSky_50 rfl (by decide) (fun _ => ?_) (fun _ => ?_)
    · refine g_iloadn K 1 rfl rfl 54 dX4_readSky_53 rfl ?_
      refine g_goto K 62 dX4_readSky_54 (by decide) ?_
      exact gm_iret K hK hcl hr hlk dX4_readSky_62 rfl
    · refine g_aloadn K 0 rfl rfl 58 dX4_readSky_57 rfl ?_
      refine g_iconst K (nI 1) ic_1 59 dX4_readSky_58 rfl ?_
      refine gm_call K hK hcl 62 (ct_errs j1.2 (nI 1)) (lw_V q1799 q1801 qs70 q158 q1802) wd_errs (by decide) rfl (Nat.le_of_ble_eq_true rfl) dX4_readSky_59 rfl (fun r4 _ => ?_)
      exact gm_iret K hK hcl hr hlk dX4_readSky_62 rfl
  · refine g_jn (head := 17) (L := fun j5 => [(0, .ref am)]) (sf := fun j5 => []) (mf := fun j5 => j5) (fun j5 => ?_) (fun k6 h7 => ?_)
    · try dsimp only
      refine g_aloadn K 0 rfl rfl 18 dX4_readSky_17 rfl ?_
      refine g_iconst K (nI 3) ic_3 19 dX4_readSky_18 rfl ?_
      refine gm_call K hK hcl 22 (ct_errs j5 (nI 3)) (lw_V q1799 q1801 qs70 q158 q1802) wd_errs (by decide) rfl (Nat.le_of_ble_eq_true rfl) dX4_readSky_19 rfl (fun r8 _ => ?_)
      exact gm_iret K hK hcl hr hlk dX4_readSky_22 rfl
    · refine g_lp (head := 2) (L := fun j9 => [(0, .ref am), (1, .int j9.1)]) (sf := fun j9 => []) (mf := fun j9 => j9.2) (fun again10 h11 j9 => ?_) fuel ((nI 0), μ)
      try dsimp only
      refine g_aloadn K 0 rfl rfl 3 dX4_readSky_2 rfl ?_
      refine g_bipush K (nI 19) bp_19 5 dX4_readSky_3 rfl ?_
      refine gm_call K hK hcl 8 (ct_isWord j9.2 (nI 19)) (lw_V q1795 q1797 qs69 q158 q1798) wd_isWord (by decide) rfl (Nat.le_of_ble_eq_true rfl) dX4_readSky_5 rfl (fun r12 _ => ?_)
      refine g_if_eq K 11 46 dX4_readSky_8 rfl (by decide) (fun _ => ?_) (fun _ => ?_)
      · exact h3 (j9.1, j9.2)
      · refine g_iloadn K 1 rfl rfl 12 dX4_readSky_11 rfl ?_
        refine g_bipush K (nI 16) bp_16 14 dX4_readSky_12 rfl ?_
        refine g_icmp_ne K 17 23 dX4_readSky_14 rfl (by decide) (fun _ => ?_) (fun _ => ?_)
        · refine g_sub (ls' := [(0, .ref am)]) [0] rfl ?_
          exact h7 j9.2
        · refine g_aloadn K 0 rfl rfl 24 dX4_readSky_23 rfl ?_
          refine g_bipush K (nI 48) bp_48 26 dX4_readSky_24 rfl ?_
          refine g_iconst K (nI 3) ic_3 27 dX4_readSky_26 rfl ?_
          refine g_iloadn K 1 rfl rfl 28 dX4_readSky_27 rfl ?_
          refine g_imul K 29 dX4_readSky_28 rfl ?_
          refine g_iadd K 30 dX4_readSky_29 rfl ?_
          refine gm_call K hK hcl 33 (ct_readSkyLine j9.2 ((nI 48) + ((nI 3) * j9.1))) (lw_V q1803 q1805 qs71 q158 q1806) wd_readSkyLine (by decide) rfl (Nat.le_of_ble_eq_true rfl) dX4_readSky_30 rfl (fun r13 _ => ?_)
          refine g_iconst K (-1 : Int32) ic_m1 34 dX4_readSky_33 rfl ?_
          refine g_icmp_ne K 37 39 dX4_readSky_34 rfl (by decide) (fun _ => ?_) (fun _ => ?_)
          · refine g_iconst K (-1 : Int32) ic_m1 38 dX4_readSky_37 rfl ?_
            exact gm_iret K hK hcl hr hlk dX4_readSky_38 rfl
          · refine g_iloadn K 1 rfl rfl 40 dX4_readSky_39 rfl ?_
            refine g_iconst K (nI 1) ic_1 41 dX4_readSky_40 rfl ?_
            refine g_iadd K 42 dX4_readSky_41 rfl ?_
            refine g_istoren K [(0, .ref am), (1, .int (j9.1 + (nI 1)))] [1, 0] rfl (by decide) rfl 43 dX4_readSky_42 rfl ?_
            refine g_goto K 2 dX4_readSky_43 (by decide) ?_
            exact h11 ((j9.1 + (nI 1)), r13.2)
/-- readDeed(I)I -/
def m_readDeed (μ : Mem) (x1 : Int32) : Option (Int32 × Mem) :=
  (m_readTold μ (nI 19) (nI 0) (nI 999)).bind fun r1 =>
  (wr r1.2 36 160 x1 r1.1).bind fun μ2 =>
  (rd μ2 36 160 x1).bind fun v3 =>
  if v3 = (-1 : Int32) then
  some ((-1 : Int32), μ2)
  else
  jn (fun (j4 : Unit) =>
  (m_errs μ2 (nI 1)).bind fun r7 =>
  some (r7.1, r7.2)) (fun k5 =>
  if (μ2 14 0) = (nI 2) then
  (m_isIn μ2 (μ2 15 0) (nI 21) (nI 24)).bind fun r8 =>
  if (bI r8) = 0 then
  k5 ()
  else
  nm ((μ2 15 0) - (nI 21)) fun v9 =>
  (m_reads μ2).bind fun r10 =>
  (wr r10 36 160 (x1 + (nI 1)) v9).bind fun μ11 =>
  (m_readNumber μ11 (nI 0) ((μ11 6 0) - (nI 1))).bind fun r12 =>
  (wr r12.2 36 160 (x1 + (nI 2)) r12.1).bind fun μ13 =>
  (rd μ13 36 160 (x1 + (nI 2))).bind fun v14 =>
  if v14 = (-1 : Int32) then
  some ((-1 : Int32), μ13)
  else
  jn (fun (j15 : Int32 × Mem) =>
  (wr j15.2 36 160 (x1 + (nI 3)) j15.1).bind fun μ18 =>
  (rd μ18 36 160 (x1 + (nI 3))).bind fun v19 =>
  if v19 = (-1 : Int32) then
  some ((-1 : Int32), μ18)
  else
  jn (fun (j20 : Int32 × Mem) =>
  (wr j20.2 36 160 (x1 + (nI 4)) j20.1).bind fun μ23 =>
  (rd μ23 36 160 (x1 + (nI 4))).bind fun v24 =>
  if v24 = (-1 : Int32) then
  some ((-1 : Int32), μ23)
  else
  (m_readMark μ23 (nI 59)).bind fun r25 =>
  some (r25.1, r25.2)) (fun k21 =>
  jn (fun (j26 : Unit) =>
  (m_readNumber μ18 (nI 1) (nI 99)).bind fun r29 =>
  k21 (r29.1, r29.2)) (fun k27 =>
  if v9 = 0 then
  k27 ()
  else
  if v9 = (nI 1) then
  k27 ()
  else
  k21 ((nI 0), μ18)))) (fun k16 =>
  if v9 = (nI 1) then
  (m_readNumber μ13 (nI 0) (nI 3)).bind fun r30 =>
  k16 (r30.1, r30.2)
  else
  k16 ((nI 0), μ13))
  else
  k5 ())
theorem wd_readDeed : yX4_readDeed.cls = RX4 ∧ yX4_readDeed.cls ≠ "java/lang/invoke/MethodHandle" ∧ yX4_readDeed.cls ≠ "java/lang/invoke/VarHandle" ∧ (parseMethodDescriptor yX4_readDeed.desc).map (fun d => d.parameters.length) = some 1 := by decide +kernel
set_option maxRecDepth 100000 in
theorem ct_readDeed (μ : Mem) (x1 : Int32) : CtM yX4_readDeed cX4_readDeed 3 (some .int) 5 111 [.int x1] μ (fun r => (some (.int r.1), r.2)) (m_readDeed μ x1) := by
  refine CtM.of (by decide) rfl (fun _ => Nat.le_of_ble_eq_true rfl) ?_
  intro l D cl ci cA am p e s m args below meth c hcl K hr hlk hK
  refine g_sub (ls' := [(0, .ref am), (1, .int x1)]) [0, 1] rfl ?_
  unfold m_readDeed
  refine g_aloadn K 0 rfl rfl 1 dX4_readDeed_0 rfl ?_
  refine gm_get K hK hcl 36 4 (by decide) q1521 rfl dX4_readDeed_1 rfl ?_
  refine g_iloadn K 1 rfl rfl 5 dX4_readDeed_4 rfl ?_
  refine g_aloadn K 0 rfl rfl 6 dX4_readDeed_5 rfl ?_
  refine g_bipush K (nI 19) bp_19 8 dX4_readDeed_6 rfl ?_
  refine g_iconst K (nI 0) ic_0 9 dX4_readDeed_8 rfl ?_
  refine g_sipush K (nI 999) sp_999 12 dX4_readDeed_9 rfl ?_
  refine gm_call K hK hcl 15 (ct_readTold μ (nI 19) (nI 0) (nI 999)) (lw_V q1807 q1809 qs72 q158 q1810) wd_readTold (by decide) rfl (Nat.le_of_ble_eq_true rfl) dX4_readDeed_12 rfl (fun r1 _ => ?_)
  refine gm_ast K hK hcl 36 18 160 16 rfl (fun _ => rfl) dX4_readDeed_15 rfl (fun μ2 _ => ?_)
  refine g_aloadn K 0 rfl rfl 17 dX4_readDeed_16 rfl ?_
  refine gm_get K hK hcl 36 20 (by decide) q1521 rfl dX4_readDeed_17 rfl ?_
  refine g_iloadn K 1 rfl rfl 21 dX4_readDeed_20 rfl ?_
  refine gm_ald K hK hcl 36 18 160 22 rfl dX4_readDeed_21 rfl (fun v3 _ => ?_)
  refine g_iconst K (-1 : Int32) ic_m1 23 dX4_readDeed_22 rfl ?_
  refine g_icmp_ne K 26 28 dX4_readDeed_23 rfl (by decide) (fun _ => ?_) (fun _ => ?_)
  · refine g_iconst K (-1 : Int32) ic_m1 27 dX4_readDeed_26 rfl ?_
    exact gm_iret K hK hcl hr hlk dX4_readDeed_27 rfl
  · refine g_aloadn K 0 rfl rfl 29 dX4_readDeed_28 rfl ?_
    refine gm_get K hK hcl 14 32 (by decide) q1499 rfl dX4_readDeed_29 rfl ?_
    refine g_iconst K (nI 2) ic_2 33 dX4_readDeed_32 rfl ?_
    refine g_jn (head := 51) (L := fun j4 => [(0, .ref am)]) (sf := fun j4 => []) (mf := fun j4 => μ2) (fun j4 => ?_) (fun k5 h6 => ?_)
    · try dsimp only
      refine g_aloadn K 0 rfl rfl 52 dX4_readDeed_51 rfl ?_
      refine g_iconst K (nI 1) ic_1 53 dX4_readDeed_52 rfl ?_
      refine gm_call K hK hcl 56 (ct_errs μ2 (nI 1)) (lw_V q1799 q1801 qs70 q158 q1802) wd_errs (by decide) rfl (Nat.le_of_ble_eq_true rfl) dX4_readDeed_53 rfl (fun r7 _ => ?_)
      exact gm_iret K hK hcl hr hlk dX4_readDeed_56 rfl
    · refine g_icmp_ne K 36 51 dX4_readDeed_33 rfl (by decide) (fun _ => ?_) (fun _ => ?_)
      · refine g_aloadn K 0 rfl rfl 37 dX4_readDeed_36 rfl ?_
        refine g_aloadn K 0 rfl rfl 38 dX4_readDeed_37 rfl ?_
        refine gm_get K hK hcl 15 41 (by decide) q1500 rfl dX4_readDeed_38 rfl ?_
        refine g_bipush K (nI 21) bp_21 43 dX4_readDeed_41 rfl ?_
        refine g_bipush K (nI 24) bp_24 45 dX4_readDeed_43 rfl ?_
        refine gm_call K hK hcl 48 (ct_isIn μ2 (μ2 15 0) (nI 21) (nI 24)) (lw_V q1723 q1725 qs55 q158 q1726) wd_isIn (by decide) rfl (Nat.le_of_ble_eq_true rfl) dX4_readDeed_45 rfl (fun r8 _ => ?_)
        refine g_if_ne K 51 57 dX4_readDeed_48 rfl (by decide) (fun _ => ?_) (fun _ => ?_)
        · refine g_sub (ls' := [(0, .ref am)]) [0] rfl ?_
          exact h6 ()
        · refine g_aloadn K 0 rfl rfl 58 dX4_readDeed_57 rfl ?_
          refine gm_get K hK hcl 15 61 (by decide) q1500 rfl dX4_readDeed_58 rfl ?_
          refine g_bipush K (nI 21) bp_21 63 dX4_readDeed_61 rfl ?_
          refine g_isub K 64 dX4_readDeed_63 rfl ?_
          refine g_nm (fun v9 _ => ?_)
          refine g_istoren K [(0, .ref am), (1, .int x1), (2, .int v9)] [1, 2, 0] rfl (by decide) rfl 65 dX4_readDeed_64 rfl ?_
          refine g_aloadn K 0 rfl rfl 66 dX4_readDeed_65 rfl ?_
          refine gm_call K hK hcl 69 (ct_reads μ2) (lw_V q1767 q1769 qs62 q158 q1770) wd_reads (by decide) rfl (Nat.le_of_ble_eq_true rfl) dX4_readDeed_66 rfl (fun r10 _ => ?_)
          refine g_aloadn K 0 rfl rfl 70 dX4_readDeed_69 rfl ?_
          refine gm_get K hK hcl 36 73 (by decide) q1521 rfl dX4_readDeed_70 rfl ?_
          refine g_iloadn K 1 rfl rfl 74 dX4_readDeed_73 rfl ?_
          refine g_iconst K (nI 1) ic_1 75 dX4_readDeed_74 rfl ?_
          refine g_iadd K 76 dX4_readDeed_75 rfl ?_
          refine g_iloadn K 2 rfl rfl 77 dX4_readDeed_76 rfl ?_
          refine gm_ast K hK hcl 36 18 160 78 rfl (fun _ => rfl) dX4_readDeed_77 rfl (fun μ11 _ => ?_)
          refine g_aloadn K 0 rfl rfl 79 dX4_readDeed_78 rfl ?_
          refine gm_get K hK hcl 36 82 (by decide) q1521 rfl dX4_readDeed_79 rfl ?_
          refine g_iloadn K 1 rfl rfl 83 dX4_readDeed_82 rfl ?_
          refine g_iconst K (nI 2) ic_2 84 dX4_readDeed_83 rfl ?_
          refine g_iadd K 85 dX4_readDeed_84 rfl ?_
          refine g_aloadn K 0 rfl rfl 86 dX4_readDeed_85 rfl ?_
          refine g_iconst K (nI 0) ic_0 87 dX4_readDeed_86 rfl ?_
          refine g_aloadn K 0 rfl rfl 88 dX4_readDeed_87 rfl ?_
          refine gm_get K hK hcl 6 91 (by decide) q1491 rfl dX4_readDeed_88 rfl ?_
          refine g_iconst K (nI 1) ic_1 92 dX4_readDeed_91 rfl ?_
          refine g_isub K 93 dX4_readDeed_92 rfl ?_
          refine gm_call K hK hcl 96 (ct_readNumber μ11 (nI 0) ((μ11 6 0) - (nI 1))) (lw_V q1811 q1813 qs73 q158 q1814) wd_readNumber (by decide) rfl (Nat.le_of_ble_eq_true rfl) dX4_readDeed_93 rfl (fun r12 _ => ?_)
          refine gm_ast K hK hcl 36 18 160 97 rfl (fun _ => rfl) dX4_readDeed_96 rfl (fun μ13 _ => ?_)
          refine g_aloadn K 0 rfl rfl 98 dX4_readDeed_97 rfl ?_
          refine gm_get K hK hcl 36 101 (by decide) q1521 rfl dX4_readDeed_98 rfl ?_
          refine g_iloadn K 1 rfl rfl 102 dX4_readDeed_101 rfl ?_
          refine g_iconst K (nI 2) ic_2 103 dX4_readDeed_102 rfl ?_
          refine g_iadd K 104 dX4_readDeed_103 rfl ?_
          refine gm_ald K hK hcl 36 18 160 105 rfl dX4_readDeed_104 rfl (fun v14 _ => ?_)
          refine g_iconst K (-1 : Int32) ic_m1 106 dX4_readDeed_105 rfl ?_
          refine g_icmp_ne K 109 111 dX4_readDeed_106 rfl (by decide) (fun _ => ?_) (fun _ => ?_)
          · refine g_iconst K (-1 : Int32) ic_m1 110 dX4_readDeed_109 rfl ?_
            exact gm_iret K hK hcl hr hlk dX4_readDeed_110 rfl
          · refine g_aloadn K 0 rfl rfl 112 dX4_readDeed_111 rfl ?_
            refine gm_get K hK hcl 36 115 (by decide) q1521 rfl dX4_readDeed_112 rfl ?_
            refine g_iloadn K 1 rfl rfl 116 dX4_readDeed_115 rfl ?_
            refine g_iconst K (nI 3) ic_3 117 dX4_readDeed_116 rfl ?_
            refine g_iadd K 118 dX4_readDeed_117 rfl ?_
            refine g_iloadn K 2 rfl rfl 119 dX4_readDeed_118 rfl ?_
            refine g_iconst K (nI 1) ic_1 120 dX4_readDeed_119 rfl ?_
            refine g_jn (head := 133) (L := fun j15 => [(0, .ref am), (1, .int x1), (2, .int v9)]) (sf := fun j15 => [.int j15.1, .int (x1 + (nI 3)), .ref (am + 18)]) (mf := fun j15 => j15.2) (fun j15 => ?_) (fun k16 h17 => ?_)
            · try dsimp only
              refine gm_ast K hK hcl 36 18 160 134 rfl (fun _ => rfl) dX4_readDeed_133 rfl (fun μ18 _ => ?_)
              refine g_aloadn K 0 rfl rfl 135 dX4_readDeed_134 rfl ?_
              refine gm_get K hK hcl 36 138 (by decide) q1521 rfl dX4_readDeed_135 rfl ?_
              refine g_iloadn K 1 rfl rfl 139 dX4_readDeed_138 rfl ?_
              refine g_iconst K (nI 3) ic_3 140 dX4_readDeed_139 rfl ?_
              refine g_iadd K 141 dX4_readDeed_140 rfl ?_
              refine gm_ald K hK hcl 36 18 160 142 rfl dX4_readDeed_141 rfl (fun v19 _ => ?_)
              refine g_iconst K (-1 : Int32) ic_m1 143 dX4_readDeed_142 rfl ?_
              refine g_icmp_ne K 146 148 dX4_readDeed_143 rfl (by decide) (fun _ => ?_) (fun _ => ?_)
              · refine g_iconst K (-1 : Int32) ic_m1 147 dX4_readDeed_146 rfl ?_
                exact gm_iret K hK hcl hr hlk dX4_readDeed_147 rfl
              · refine g_aloadn K 0 rfl rfl 149 dX4_readDeed_148 rfl ?_
                refine gm_get K hK hcl 36 152 (by decide) q1521 rfl dX4_readDeed_149 rfl ?_
                refine g_iloadn K 1 rfl rfl 153 dX4_readDeed_152 rfl ?_
                refine g_iconst K (nI 4) ic_4 154 dX4_readDeed_153 rfl ?_
                refine g_iadd K 155 dX4_readDeed_154 rfl ?_
                refine g_iloadn K 2 rfl rfl 156 dX4_readDeed_155 rfl ?_
                refine g_jn (head := 175) (L := fun j20 => [(0, .ref am), (1, .int x1)]) (sf := fun j20 => [.int j20.1, .int (x1 + (nI 4)), .ref (am + 18)]) (mf := fun j20 => j20.2) (fun j20 => ?_) (fun k21 h22 => ?_)
                · try dsimp only
                  refine gm_ast K hK hcl 36 18 160 176 rfl (fun _ => rfl) dX4_readDeed_175 rfl (fun μ23 _ => ?_)
                  refine g_aloadn K 0 rfl rfl 177 dX4_readDeed_176 rfl ?_
                  refine gm_get K hK hcl 36 180 (by decide) q1521 rfl dX4_readDeed_177 rfl ?_
                  refine g_iloadn K 1 rfl rfl 181 dX4_readDeed_180 rfl ?_
                  refine g_iconst K (nI 4) ic_4 182 dX4_readDeed_181 rfl ?_
                  refine g_iadd K 183 dX4_readDeed_182 rfl ?_
                  refine gm_ald K hK hcl 36 18 160 184 rfl dX4_readDeed_183 rfl (fun v24 _ => ?_)
                  refine g_iconst K (-1 : Int32) ic_m1 185 dX4_readDeed_184 rfl ?_
                  refine g_icmp_ne K 188 192 dX4_readDeed_185 rfl (by decide) (fun _ => ?_) (fun _ => ?_)
                  · refine g_iconst K (-1 : Int32) ic_m1 189 dX4_readDeed_188 rfl ?_
                    refine g_goto K 198 dX4_readDeed_189 (by decide) ?_
                    exact gm_iret K hK hcl hr hlk dX4_readDeed_198 rfl
                  · refine g_aloadn K 0 rfl rfl 193 dX4_readDeed_192 rfl ?_
                    refine g_bipush K (nI 59) bp_59 195 dX4_readDeed_193 rfl ?_
                    refine gm_call K hK hcl 198 (ct_readMark μ23 (nI 59)) (lw_V q1815 q1817 qs74 q158 q1818) wd_readMark (by decide) rfl (Nat.le_of_ble_eq_true rfl) dX4_readDeed_195 rfl (fun r25 _ => ?_)
                    exact gm_iret K hK hcl hr hlk dX4_readDeed_198 rfl
                · refine g_jn (head := 164) (L := fun j26 => [(0, .ref am), (1, .int x1)]) (sf := fun j26 => [.int (x1 + (nI 4)), .ref (am + 18)]) (mf := fun j26 => μ18) (fun j26 => ?_) (fun k27 h28 => ?_)
                  · try dsimp only
                    refine g_aloadn K 0 rfl rfl 165 dX4_readDeed_164 rfl ?_
                    refine g_iconst K (nI 1) ic_1 166 dX4_readDeed_165 rfl ?_
                    refine g_bipush K (nI 99) bp_99 168 dX4_readDeed_166 rfl ?_
                    refine gm_call K hK hcl 171 (ct_readNumber μ18 (nI 1) (nI 99)) (lw_V q1811 q1813 qs73 q158 q1814) wd_readNumber (by decide) rfl (Nat.le_of_ble_eq_true rfl) dX4_readDeed_168 rfl (fun r29 _ => ?_)
                    refine g_goto K 175 dX4_readDeed_171 (by decide) ?_
                    exact h22 (r29.1, r29.2)
                  · refine g_if_eq K 159 164 dX4_readDeed_156 rfl (by decide) (fun _ => ?_) (fun _ => ?_)
                    · refine g_sub (ls' := [(0, .ref am), (1, .int x1)]) [0, 1] rfl ?_
                      exact h28 ()
                    · refine g_iloadn K 2 rfl rfl 160 dX4_readDeed_159 rfl ?_
                      refine g_iconst K (nI 1) ic_1 161 dX4_readDeed_160 rfl ?_
                      refine g_icmp_ne K 164 174 dX4_readDeed_161 rfl (by decide) (fun _ => ?_) (fun _ => ?_)
                      · refine g_sub (ls' := [(0, .ref am), (1, .int x1)]) [0, 1] rfl ?_
                        exact h28 ()
                      · refine g_iconst K (nI 0) ic_0 175 dX4_readDeed_174 rfl ?_
                        refine g_sub (ls' := [(0, .ref am), (1, .int x1)]) [0, 1] rfl ?_
                        exact h22 ((nI 0), μ18)
            · refine g_icmp_ne K 123 132 dX4_readDeed_120 rfl (by decide) (fun _ => ?_) (fun _ => ?_)
              · refine g_aloadn K 0 rfl rfl 124 dX4_readDeed_123 rfl ?_
                refine g_iconst K (nI 0) ic_0 125 dX4_readDeed_124 rfl ?_
                refine g_iconst K (nI 3) ic_3 126 dX4_readDeed_125 rfl ?_
                refine gm_call K hK hcl 129 (ct_readNumber μ13 (nI 0) (nI 3)) (lw_V q1811 q1813 qs73 q158 q1814) wd_readNumber (by decide) rfl (Nat.le_of_ble_eq_true rfl) dX4_readDeed_126 rfl (fun r30 _ => ?_)
                refine g_goto K 133 dX4_readDeed_129 (by decide) ?_
                exact h17 (r30.1, r30.2)
              · refine g_iconst K (nI 0) ic_0 133 dX4_readDeed_132 rfl ?_
                exact h17 ((nI 0), μ13)
      · refine g_sub (ls' := [(0, .ref am)]) [0] rfl ?_
        exact h6 ()
/-- readOffice()I -/
def m_readOffice (μ : Mem) : Option (Int32 × Mem) :=
  jn (fun (j1 : Int32 × Mem) =>
  if (j1.2 14 0) = 0 then
  some (j1.1, j1.2)
  else
  (m_errs j1.2 (nI 1)).bind fun r4 =>
  some (r4.1, r4.2)) (fun k2 =>
  jn (fun (j5 : Mem) =>
  (m_errs j5 (nI 3)).bind fun r8 =>
  some (r8.1, r8.2)) (fun k6 =>
  lp (fun again10 (j9 : Int32 × Mem) =>
  (m_isWord j9.2 (nI 19)).bind fun r12 =>
  if (bI r12) = 0 then
  k2 (j9.1, j9.2)
  else
  if j9.1 = (nI 16) then
  k6 j9.2
  else
  (m_readDeed j9.2 ((nI 80) + ((nI 5) * j9.1))).bind fun r13 =>
  if r13.1 = (-1 : Int32) then
  some ((-1 : Int32), r13.2)
  else
  again10 ((j9.1 + (nI 1)), r13.2)) fuel ((nI 0), μ)))
theorem wd_readOffice : yX4_readOffice.cls = RX4 ∧ yX4_readOffice.cls ≠ "java/lang/invoke/MethodHandle" ∧ yX4_readOffice.cls ≠ "java/lang/invoke/VarHandle" ∧ (parseMethodDescriptor yX4_readOffice.desc).map (fun d => d.parameters.length) = some 0 := by decide +kernel
set_option maxRecDepth 100000 in
theorem ct_readOffice (μ : Mem) : CtM yX4_readOffice cX4_readOffice 2 (some .int) 6 133 [] μ (fun r => (some (.int r.1), r.2)) (m_readOffice μ) := by
  refine CtM.of (by decide) rfl (fun _ => Nat.le_of_ble_eq_true rfl) ?_
  intro l D cl ci cA am p e s m args below meth c hcl K hr hlk hK
  refine g_sub (ls' := [(0, .ref am)]) [0] rfl ?_
  unfold m_readOffice
  refine g_iconst K (nI 0) ic_0 1 dX4_readOffice_0 rfl ?_
  refine g_istoren K [(0, .ref am), (1, .int (nI 0))] [1, 0] rfl (by decide) rfl 2 dX4_readOffice_1 rfl ?_
  refine g_jn (head := 46) (L := fun j1 => [(0, .ref am), (1, .int j1.1)]) (sf := fun j1 => []) (mf := fun j1 => j1.2) (fun j1 => ?_) (fun k2 h3 => ?_)
  · try dsimp only
    refine g_aloadn K 0 rfl rfl 47 dX4_readOffice_46 rfl ?_
    refine gm_get K hK hcl 14 50 (by decide) q1499 rfl dX4_readOffice_47 rfl ?_
    refine g_if_ne K 53 57 dX4_readOffice_50 rfl (by decide) (fun _ => ?_) (fun _ => ?_)
    · refine g_iloadn K 1 rfl rfl 54 dX4_readOffice_53 rfl ?_
      refine g_goto K 62 dX4_readOffice_54 (by decide) ?_
      exact gm_iret K hK hcl hr hlk dX4_readOffice_62 rfl
    · refine g_aloadn K 0 rfl rfl 58 dX4_readOffice_57 rfl ?_
      refine g_iconst K (nI 1) ic_1 59 dX4_readOffice_58 rfl ?_
      refine gm_call K hK hcl 62 (ct_errs j1.2 (nI 1)) (lw_V q1799 q1801 qs70 q158 q1802) wd_errs (by decide) rfl (Nat.le_of_ble_eq_true rfl) dX4_readOffice_59 rfl (fun r4 _ => ?_)
      exact gm_iret K hK hcl hr hlk dX4_readOffice_62 rfl
  · refine g_jn (head := 17) (L := fun j5 => [(0, .ref am)]) (sf := fun j5 => []) (mf := fun j5 => j5) (fun j5 => ?_) (fun k6 h7 => ?_)
    · try dsimp only
      refine g_aloadn K 0 rfl rfl 18 dX4_readOffice_17 rfl ?_
      refine g_iconst K (nI 3) ic_3 19 dX4_readOffice_18 rfl ?_
      refine gm_call K hK hcl 22 (ct_errs j5 (nI 3)) (lw_V q1799 q1801 qs70 q158 q1802) wd_errs (by decide) rfl (Nat.le_of_ble_eq_true rfl) dX4_readOffice_19 rfl (fun r8 _ => ?_)
      exact gm_iret K hK hcl hr hlk dX4_readOffice_22 rfl
    · refine g_lp (head := 2) (L := fun j9 => [(0, .ref am), (1, .int j9.1)]) (sf := fun j9 => []) (mf := fun j9 => j9.2) (fun again10 h11 j9 => ?_) fuel ((nI 0), μ)
      try dsimp only
      refine g_aloadn K 0 rfl rfl 3 dX4_readOffice_2 rfl ?_
      refine g_bipush K (nI 19) bp_19 5 dX4_readOffice_3 rfl ?_
      refine gm_call K hK hcl 8 (ct_isWord j9.2 (nI 19)) (lw_V q1795 q1797 qs69 q158 q1798) wd_isWord (by decide) rfl (Nat.le_of_ble_eq_true rfl) dX4_readOffice_5 rfl (fun r12 _ => ?_)
      refine g_if_eq K 11 46 dX4_readOffice_8 rfl (by decide) (fun _ => ?_) (fun _ => ?_)
      · exact h3 (j9.1, j9.2)
      · refine g_iloadn K 1 rfl rfl 12 dX4_readOffice_11 rfl ?_
        refine g_bipush K (nI 16) bp_16 14 dX4_readOffice_12 rfl ?_
        refine g_icmp_ne K 17 23 dX4_readOffice_14 rfl (by decide) (fun _ => ?_) (fun _ => ?_)
        · refine g_sub (ls' := [(0, .ref am)]) [0] rfl ?_
          exact h7 j9.2
        · refine g_aloadn K 0 rfl rfl 24 dX4_readOffice_23 rfl ?_
          refine g_bipush K (nI 80) bp_80 26 dX4_readOffice_24 rfl ?_
          refine g_iconst K (nI 5) ic_5 27 dX4_readOffice_26 rfl ?_
          refine g_iloadn K 1 rfl rfl 28 dX4_readOffice_27 rfl ?_
          refine g_imul K 29 dX4_readOffice_28 rfl ?_
          refine g_iadd K 30 dX4_readOffice_29 rfl ?_
          refine gm_call K hK hcl 33 (ct_readDeed j9.2 ((nI 80) + ((nI 5) * j9.1))) (lw_V q1827 q1829 qs77 q158 q1830) wd_readDeed (by decide) rfl (Nat.le_of_ble_eq_true rfl) dX4_readOffice_30 rfl (fun r13 _ => ?_)
          refine g_iconst K (-1 : Int32) ic_m1 34 dX4_readOffice_33 rfl ?_
          refine g_icmp_ne K 37 39 dX4_readOffice_34 rfl (by decide) (fun _ => ?_) (fun _ => ?_)
          · refine g_iconst K (-1 : Int32) ic_m1 38 dX4_readOffice_37 rfl ?_
            exact gm_iret K hK hcl hr hlk dX4_readOffice_38 rfl
          · refine g_iloadn K 1 rfl rfl 40 dX4_readOffice_39 rfl ?_
            refine g_iconst K (nI 1) ic_1 41 dX4_readOffice_40 rfl ?_
            refine g_iadd K 42 dX4_readOffice_41 rfl ?_
            refine g_istoren K [(0, .ref am), (1, .int (j9.1 + (nI 1)))] [1, 0] rfl (by decide) rfl 43 dX4_readOffice_42 rfl ?_
            refine g_goto K 2 dX4_readOffice_43 (by decide) ?_
            exact h11 ((j9.1 + (nI 1)), r13.2)
/-- readNext()I -/
def m_readNext (μ : Mem) : Option (Int32 × Mem) :=
  (m_readTold μ (nI 25) (nI 0) ((μ 6 0) - (nI 1))).bind fun r1 =>
  if r1.1 = (-1 : Int32) then
  some ((-1 : Int32), r1.2)
  else
  (m_isWord r1.2 (nI 26)).bind fun r2 =>
  if (bI r2) = 0 then
  (m_errs r1.2 (nI 1)).bind fun r14 =>
  some (r14.1, r14.2)
  else
  (m_reads r1.2).bind fun r3 =>
  jn (fun (j4 : Unit) =>
  (m_readNumber r3 (nI 0) ((r3 6 0) - (nI 1))).bind fun r7 =>
  if r7.1 = (-1 : Int32) then
  some ((-1 : Int32), r7.2)
  else
  (rd r7.2 38 24 ((nI 12) + r1.1)).bind fun v8 =>
  (wr r7.2 38 24 ((nI 12) + r1.1) (v8 ||| ((nI 1) <<< (r7.1 &&& 31)))).bind fun μ9 =>
  (rd μ9 38 24 ((nI 12) + r7.1)).bind fun v10 =>
  (wr μ9 38 24 ((nI 12) + r7.1) (v10 ||| ((nI 1) <<< (r1.1 &&& 31)))).bind fun μ11 =>
  (m_readMark μ11 (nI 59)).bind fun r12 =>
  some (r12.1, r12.2)) (fun k5 =>
  if (r3 14 0) = (nI 3) then
  if (r3 15 0) = r1.1 then
  (m_errs r3 (nI 2)).bind fun r13 =>
  some (r13.1, r13.2)
  else
  k5 ()
  else
  k5 ())
theorem wd_readNext : yX4_readNext.cls = RX4 ∧ yX4_readNext.cls ≠ "java/lang/invoke/MethodHandle" ∧ yX4_readNext.cls ≠ "java/lang/invoke/VarHandle" ∧ (parseMethodDescriptor yX4_readNext.desc).map (fun d => d.parameters.length) = some 0 := by decide +kernel
set_option maxRecDepth 100000 in
theorem ct_readNext (μ : Mem) : CtM yX4_readNext cX4_readNext 3 (some .int) 5 111 [] μ (fun r => (some (.int r.1), r.2)) (m_readNext μ) := by
  refine CtM.of (by decide) rfl (fun _ => Nat.le_of_ble_eq_true rfl) ?_
  intro l D cl ci cA am p e s m args below meth c hcl K hr hlk hK
  refine g_sub (ls' := [(0, .ref am)]) [0] rfl ?_
  unfold m_readNext
  refine g_aloadn K 0 rfl rfl 1 dX4_readNext_0 rfl ?_
  refine g_bipush K (nI 25) bp_25 3 dX4_readNext_1 rfl ?_
  refine g_iconst K (nI 0) ic_0 4 dX4_readNext_3 rfl ?_
  refine g_aloadn K 0 rfl rfl 5 dX4_readNext_4 rfl ?_
  refine gm_get K hK hcl 6 8 (by decide) q1491 rfl dX4_readNext_5 rfl ?_
  refine g_iconst K (nI 1) ic_1 9 dX4_readNext_8 rfl ?_
  refine g_isub K 10 dX4_readNext_9 rfl ?_
  refine gm_call K hK hcl 13 (ct_readTold μ (nI 25) (nI 0) ((μ 6 0) - (nI 1))) (lw_V q1807 q1809 qs72 q158 q1810) wd_readTold (by decide) rfl (Nat.le_of_ble_eq_true rfl) dX4_readNext_10 rfl (fun r1 _ => ?_)
  refine g_istoren K [(0, .ref am), (1, .int r1.1)] [1, 0] rfl (by decide) rfl 14 dX4_readNext_13 rfl ?_
  refine g_iloadn K 1 rfl rfl 15 dX4_readNext_14 rfl ?_
  refine g_iconst K (-1 : Int32) ic_m1 16 dX4_readNext_15 rfl ?_
  refine g_icmp_ne K 19 21 dX4_readNext_16 rfl (by decide) (fun _ => ?_) (fun _ => ?_)
  · refine g_iconst K (-1 : Int32) ic_m1 20 dX4_readNext_19 rfl ?_
    exact gm_iret K hK hcl hr hlk dX4_readNext_20 rfl
  · refine g_aloadn K 0 rfl rfl 22 dX4_readNext_21 rfl ?_
    refine g_bipush K (nI 26) bp_26 24 dX4_readNext_22 rfl ?_
    refine gm_call K hK hcl 27 (ct_isWord r1.2 (nI 26)) (lw_V q1795 q1797 qs69 q158 q1798) wd_isWord (by decide) rfl (Nat.le_of_ble_eq_true rfl) dX4_readNext_24 rfl (fun r2 _ => ?_)
    refine g_if_ne K 30 36 dX4_readNext_27 rfl (by decide) (fun _ => ?_) (fun _ => ?_)
    · refine g_aloadn K 0 rfl rfl 31 dX4_readNext_30 rfl ?_
      refine g_iconst K (nI 1) ic_1 32 dX4_readNext_31 rfl ?_
      refine gm_call K hK hcl 35 (ct_errs r1.2 (nI 1)) (lw_V q1799 q1801 qs70 q158 q1802) wd_errs (by decide) rfl (Nat.le_of_ble_eq_true rfl) dX4_readNext_32 rfl (fun r14 _ => ?_)
      exact gm_iret K hK hcl hr hlk dX4_readNext_35 rfl
    · refine g_aloadn K 0 rfl rfl 37 dX4_readNext_36 rfl ?_
      refine gm_call K hK hcl 40 (ct_reads r1.2) (lw_V q1767 q1769 qs62 q158 q1770) wd_reads (by decide) rfl (Nat.le_of_ble_eq_true rfl) dX4_readNext_37 rfl (fun r3 _ => ?_)
      refine g_aloadn K 0 rfl rfl 41 dX4_readNext_40 rfl ?_
      refine gm_get K hK hcl 14 44 (by decide) q1499 rfl dX4_readNext_41 rfl ?_
      refine g_iconst K (nI 3) ic_3 45 dX4_readNext_44 rfl ?_
      refine g_jn (head := 62) (L := fun j4 => [(0, .ref am), (1, .int r1.1)]) (sf := fun j4 => []) (mf := fun j4 => r3) (fun j4 => ?_) (fun k5 h6 => ?_)
      · try dsimp only
        refine g_aloadn K 0 rfl rfl 63 dX4_readNext_62 rfl ?_
        refine g_iconst K (nI 0) ic_0 64 dX4_readNext_63 rfl ?_
        refine g_aloadn K 0 rfl rfl 65 dX4_readNext_64 rfl ?_
        refine gm_get K hK hcl 6 68 (by decide) q1491 rfl dX4_readNext_65 rfl ?_
        refine g_iconst K (nI 1) ic_1 69 dX4_readNext_68 rfl ?_
        refine g_isub K 70 dX4_readNext_69 rfl ?_
        refine gm_call K hK hcl 73 (ct_readNumber r3 (nI 0) ((r3 6 0) - (nI 1))) (lw_V q1811 q1813 qs73 q158 q1814) wd_readNumber (by decide) rfl (Nat.le_of_ble_eq_true rfl) dX4_readNext_70 rfl (fun r7 _ => ?_)
        refine g_istoren K [(0, .ref am), (1, .int r1.1), (2, .int r7.1)] [1, 2, 0] rfl (by decide) rfl 74 dX4_readNext_73 rfl ?_
        refine g_iloadn K 2 rfl rfl 75 dX4_readNext_74 rfl ?_
        refine g_iconst K (-1 : Int32) ic_m1 76 dX4_readNext_75 rfl ?_
        refine g_icmp_ne K 79 81 dX4_readNext_76 rfl (by decide) (fun _ => ?_) (fun _ => ?_)
        · refine g_iconst K (-1 : Int32) ic_m1 80 dX4_readNext_79 rfl ?_
          exact gm_iret K hK hcl hr hlk dX4_readNext_80 rfl
        · refine g_aloadn K 0 rfl rfl 82 dX4_readNext_81 rfl ?_
          refine gm_get K hK hcl 38 85 (by decide) q1523 rfl dX4_readNext_82 rfl ?_
          refine g_bipush K (nI 12) bp_12 87 dX4_readNext_85 rfl ?_
          refine g_iloadn K 1 rfl rfl 88 dX4_readNext_87 rfl ?_
          refine g_iadd K 89 dX4_readNext_88 rfl ?_
          refine g_aloadn K 0 rfl rfl 90 dX4_readNext_89 rfl ?_
          refine gm_get K hK hcl 38 93 (by decide) q1523 rfl dX4_readNext_90 rfl ?_
          refine g_bipush K (nI 12) bp_12 95 dX4_readNext_93 rfl ?_
          refine g_iloadn K 1 rfl rfl 96 dX4_readNext_95 rfl ?_
          refine g_iadd K 97 dX4_readNext_96 rfl ?_
          refine gm_ald K hK hcl 38 19 24 98 rfl dX4_readNext_97 rfl (fun v8 _ => ?_)
          refine g_iconst K (nI 1) ic_1 99 dX4_readNext_98 rfl ?_
          refine g_iloadn K 2 rfl rfl 100 dX4_readNext_99 rfl ?_
          refine g_ishl K 101 dX4_readNext_100 rfl ?_
          refine g_ior K 102 dX4_readNext_101 rfl ?_
          refine gm_ast K hK hcl 38 19 24 103 rfl (fun _ => rfl) dX4_readNext_102 rfl (fun μ9 _ => ?_)
          refine g_aloadn K 0 rfl rfl 104 dX4_readNext_103 rfl ?_
          refine gm_get K hK hcl 38 107 (by decide) q1523 rfl dX4_readNext_104 rfl ?_
          refine g_bipush K (nI 12) bp_12 109 dX4_readNext_107 rfl ?_
          refine g_iloadn K 2 rfl rfl 110 dX4_readNext_109 rfl ?_
          refine g_iadd K 111 dX4_readNext_110 rfl ?_
          refine g_aloadn K 0 rfl rfl 112 dX4_readNext_111 rfl ?_
          refine gm_get K hK hcl 38 115 (by decide) q1523 rfl dX4_readNext_112 rfl ?_
          refine g_bipush K (nI 12) bp_12 117 dX4_readNext_115 rfl ?_
          refine g_iloadn K 2 rfl rfl 118 dX4_readNext_117 rfl ?_
          refine g_iadd K 119 dX4_readNext_118 rfl ?_
          refine gm_ald K hK hcl 38 19 24 120 rfl dX4_readNext_119 rfl (fun v10 _ => ?_)
          refine g_iconst K (nI 1) ic_1 121 dX4_readNext_120 rfl ?_
          refine g_iloadn K 1 rfl rfl 122 dX4_readNext_121 rfl ?_
          refine g_ishl K 123 dX4_readNext_122 rfl ?_
          refine g_ior K 124 dX4_readNext_123 rfl ?_
          refine gm_ast K hK hcl 38 19 24 125 rfl (fun _ => rfl) dX4_readNext_124 rfl (fun μ11 _ => ?_)
          refine g_aloadn K 0 rfl rfl 126 dX4_readNext_125 rfl ?_
          refine g_bipush K (nI 59) bp_59 128 dX4_readNext_126 rfl ?_
          refine gm_call K hK hcl 131 (ct_readMark μ11 (nI 59)) (lw_V q1815 q1817 qs74 q158 q1818) wd_readMark (by decide) rfl (Nat.le_of_ble_eq_true rfl) dX4_readNext_128 rfl (fun r12 _ => ?_)
          exact gm_iret K hK hcl hr hlk dX4_readNext_131 rfl
      · refine g_icmp_ne K 48 62 dX4_readNext_45 rfl (by decide) (fun _ => ?_) (fun _ => ?_)
        · refine g_aloadn K 0 rfl rfl 49 dX4_readNext_48 rfl ?_
          refine gm_get K hK hcl 15 52 (by decide) q1500 rfl dX4_readNext_49 rfl ?_
          refine g_iloadn K 1 rfl rfl 53 dX4_readNext_52 rfl ?_
          refine g_icmp_ne K 56 62 dX4_readNext_53 rfl (by decide) (fun _ => ?_) (fun _ => ?_)
          · refine g_aloadn K 0 rfl rfl 57 dX4_readNext_56 rfl ?_
            refine g_iconst K (nI 2) ic_2 58 dX4_readNext_57 rfl ?_
            refine gm_call K hK hcl 61 (ct_errs r3 (nI 2)) (lw_V q1799 q1801 qs70 q158 q1802) wd_errs (by decide) rfl (Nat.le_of_ble_eq_true rfl) dX4_readNext_58 rfl (fun r13 _ => ?_)
            exact gm_iret K hK hcl hr hlk dX4_readNext_61 rfl
          · exact h6 ()
        · exact h6 ()
/-- readNexts()I -/
def m_readNexts (μ : Mem) : Option (Int32 × Mem) :=
  jn (fun (j1 : Mem) =>
  jn (fun (j4 : Int32 × Mem) =>
  if (j4.2 14 0) = 0 then
  some (j4.1, j4.2)
  else
  (m_errs j4.2 (nI 1)).bind fun r7 =>
  some (r7.1, r7.2)) (fun k5 =>
  jn (fun (j8 : Mem) =>
  (m_errs j8 (nI 3)).bind fun r11 =>
  some (r11.1, r11.2)) (fun k9 =>
  lp (fun again13 (j12 : Int32 × Mem) =>
  (m_isWord j12.2 (nI 25)).bind fun r15 =>
  if (bI r15) = 0 then
  k5 (j12.1, j12.2)
  else
  if j12.1 = (nI 16) then
  k9 j12.2
  else
  (m_readNext j12.2).bind fun r16 =>
  if r16.1 = (-1 : Int32) then
  some ((-1 : Int32), r16.2)
  else
  again13 ((j12.1 + (nI 1)), r16.2)) fuel ((nI 0), j1)))) (fun k2 =>
  lp (fun again18 (j17 : Int32 × Mem) =>
  if (nI 12) ≤ j17.1 then
  k2 j17.2
  else
  (wr j17.2 38 24 ((nI 12) + j17.1) (nI 0)).bind fun μ20 =>
  again18 ((j17.1 + (nI 1)), μ20)) fuel ((nI 0), μ))
theorem wd_readNexts : yX4_readNexts.cls = RX4 ∧ yX4_readNexts.cls ≠ "java/lang/invoke/MethodHandle" ∧ yX4_readNexts.cls ≠ "java/lang/invoke/VarHandle" ∧ (parseMethodDescriptor yX4_readNexts.desc).map (fun d => d.parameters.length) = some 0 := by decide +kernel
set_option maxRecDepth 100000 in
theorem ct_readNexts (μ : Mem) : CtM yX4_readNexts cX4_readNexts 2 (some .int) 6 133 [] μ (fun r => (some (.int r.1), r.2)) (m_readNexts μ) := by
  refine CtM.of (by decide) rfl (fun _ => Nat.le_of_ble_eq_true rfl) ?_
  intro l D cl ci cA am p e s m args below meth c hcl K hr hlk hK
  refine g_sub (ls' := [(0, .ref am)]) [0] rfl ?_
  unfold m_readNexts
  refine g_iconst K (nI 0) ic_0 1 dX4_readNexts_0 rfl ?_
  refine g_istoren K [(0, .ref am), (1, .int (nI 0))] [1, 0] rfl (by decide) rfl 2 dX4_readNexts_1 rfl ?_
  refine g_jn (head := 24) (L := fun j1 => [(0, .ref am)]) (sf := fun j1 => []) (mf := fun j1 => j1) (fun j1 => ?_) (fun k2 h3 => ?_)
  · try dsimp only
    refine g_iconst K (nI 0) ic_0 25 dX4_readNexts_24 rfl ?_
    refine g_istoren K [(0, .ref am), (1, .int (nI 0))] [1, 0] rfl (by decide) rfl 26 dX4_readNexts_25 rfl ?_
    refine g_jn (head := 64) (L := fun j4 => [(0, .ref am), (1, .int j4.1)]) (sf := fun j4 => []) (mf := fun j4 => j4.2) (fun j4 => ?_) (fun k5 h6 => ?_)
    · try dsimp only
      refine g_aloadn K 0 rfl rfl 65 dX4_readNexts_64 rfl ?_
      refine gm_get K hK hcl 14 68 (by decide) q1499 rfl dX4_readNexts_65 rfl ?_
      refine g_if_ne K 71 75 dX4_readNexts_68 rfl (by decide) (fun _ => ?_) (fun _ => ?_)
      · refine g_iloadn K 1 rfl rfl 72 dX4_readNexts_71 rfl ?_
        refine g_goto K 80 dX4_readNexts_72 (by decide) ?_
        exact gm_iret K hK hcl hr hlk dX4_readNexts_80 rfl
      · refine g_aloadn K 0 rfl rfl 76 dX4_readNexts_75 rfl ?_
        refine g_iconst K (nI 1) ic_1 77 dX4_readNexts_76 rfl ?_
        refine gm_call K hK hcl 80 (ct_errs j4.2 (nI 1)) (lw_V q1799 q1801 qs70 q158 q1802) wd_errs (by decide) rfl (Nat.le_of_ble_eq_true rfl) dX4_readNexts_77 rfl (fun r7 _ => ?_)
        exact gm_iret K hK hcl hr hlk dX4_readNexts_80 rfl
    · refine g_jn (head := 41) (L := fun j8 => [(0, .ref am)]) (sf := fun j8 => []) (mf := fun j8 => j8) (fun j8 => ?_) (fun k9 h10 => ?_)
      · try dsimp only
        refine g_aloadn K 0 rfl rfl 42 dX4_readNexts_41 rfl ?_
        refine g_iconst K (nI 3) ic_3 43 dX4_readNexts_42 rfl ?_
        refine gm_call K hK hcl 46 (ct_errs j8 (nI 3)) (lw_V q1799 q1801 qs70 q158 q1802) wd_errs (by decide) rfl (Nat.le_of_ble_eq_true rfl) dX4_readNexts_43 rfl (fun r11 _ => ?_)
        exact gm_iret K hK hcl hr hlk dX4_readNexts_46 rfl
      · refine g_lp (head := 26) (L := fun j12 => [(0, .ref am), (1, .int j12.1)]) (sf := fun j12 => []) (mf := fun j12 => j12.2) (fun again13 h14 j12 => ?_) fuel ((nI 0), j1)
        try dsimp only
        refine g_aloadn K 0 rfl rfl 27 dX4_readNexts_26 rfl ?_
        refine g_bipush K (nI 25) bp_25 29 dX4_readNexts_27 rfl ?_
        refine gm_call K hK hcl 32 (ct_isWord j12.2 (nI 25)) (lw_V q1795 q1797 qs69 q158 q1798) wd_isWord (by decide) rfl (Nat.le_of_ble_eq_true rfl) dX4_readNexts_29 rfl (fun r15 _ => ?_)
        refine g_if_eq K 35 64 dX4_readNexts_32 rfl (by decide) (fun _ => ?_) (fun _ => ?_)
        · exact h6 (j12.1, j12.2)
        · refine g_iloadn K 1 rfl rfl 36 dX4_readNexts_35 rfl ?_
          refine g_bipush K (nI 16) bp_16 38 dX4_readNexts_36 rfl ?_
          refine g_icmp_ne K 41 47 dX4_readNexts_38 rfl (by decide) (fun _ => ?_) (fun _ => ?_)
          · refine g_sub (ls' := [(0, .ref am)]) [0] rfl ?_
            exact h10 j12.2
          · refine g_aloadn K 0 rfl rfl 48 dX4_readNexts_47 rfl ?_
            refine gm_call K hK hcl 51 (ct_readNext j12.2) (lw_V q1835 q1837 qs79 q158 q1838) wd_readNext (by decide) rfl (Nat.le_of_ble_eq_true rfl) dX4_readNexts_48 rfl (fun r16 _ => ?_)
            refine g_iconst K (-1 : Int32) ic_m1 52 dX4_readNexts_51 rfl ?_
            refine g_icmp_ne K 55 57 dX4_readNexts_52 rfl (by decide) (fun _ => ?_) (fun _ => ?_)
            · refine g_iconst K (-1 : Int32) ic_m1 56 dX4_readNexts_55 rfl ?_
              exact gm_iret K hK hcl hr hlk dX4_readNexts_56 rfl
            · refine g_iloadn K 1 rfl rfl 58 dX4_readNexts_57 rfl ?_
              refine g_iconst K (nI 1) ic_1 59 dX4_readNexts_58 rfl ?_
              refine g_iadd K 60 dX4_readNexts_59 rfl ?_
              refine g_istoren K [(0, .ref am), (1, .int (j12.1 + (nI 1)))] [1, 0] rfl (by decide) rfl 61 dX4_readNexts_60 rfl ?_
              refine g_goto K 26 dX4_readNexts_61 (by decide) ?_
              exact h14 ((j12.1 + (nI 1)), r16.2)
  · refine g_lp (head := 2) (L := fun j17 => [(0, .ref am), (1, .int j17.1)]) (sf := fun j17 => []) (mf := fun j17 => j17.2) (fun again18 h19 j17 => ?_) fuel ((nI 0), μ)
    try dsimp only
    refine g_iloadn K 1 rfl rfl 3 dX4_readNexts_2 rfl ?_
    refine g_bipush K (nI 12) bp_12 5 dX4_readNexts_3 rfl ?_
    refine g_icmp_ge K 8 24 dX4_readNexts_5 rfl (by decide) (fun _ => ?_) (fun _ => ?_)
    · refine g_sub (ls' := [(0, .ref am)]) [0] rfl ?_
      exact h3 j17.2
    · refine g_aloadn K 0 rfl rfl 9 dX4_readNexts_8 rfl ?_
      refine gm_get K hK hcl 38 12 (by decide) q1523 rfl dX4_readNexts_9 rfl ?_
      refine g_bipush K (nI 12) bp_12 14 dX4_readNexts_12 rfl ?_
      refine g_iloadn K 1 rfl rfl 15 dX4_readNexts_14 rfl ?_
      refine g_iadd K 16 dX4_readNexts_15 rfl ?_
      refine g_iconst K (nI 0) ic_0 17 dX4_readNexts_16 rfl ?_
      refine gm_ast K hK hcl 38 19 24 18 rfl (fun _ => rfl) dX4_readNexts_17 rfl (fun μ20 _ => ?_)
      refine g_iinc K (j17.1 + (nI 1)) 1 [(0, .ref am), (1, .int (j17.1 + (nI 1)))] [1, 0] rfl (by rw [ic_1]) (by decide) rfl 21 dX4_readNexts_18 rfl ?_
      refine g_goto K 2 dX4_readNexts_21 (by decide) ?_
      exact h19 ((j17.1 + (nI 1)), μ20)
/-- isLineWord()Z -/
def m_isLineWord (μ : Mem) : Option (Bool) :=
  if (μ 14 0) = (nI 2) then
  (m_isIn μ (μ 15 0) (nI 0) (nI 2)).bind fun r1 =>
  if (bI r1) = 0 then
  some false
  else
  some true
  else
  some false
theorem wd_isLineWord : yX4_isLineWord.cls = RX4 ∧ yX4_isLineWord.cls ≠ "java/lang/invoke/MethodHandle" ∧ yX4_isLineWord.cls ≠ "java/lang/invoke/VarHandle" ∧ (parseMethodDescriptor yX4_isLineWord.desc).map (fun d => d.parameters.length) = some 0 := by decide +kernel
set_option maxRecDepth 100000 in
theorem ct_isLineWord (μ : Mem) : CtM yX4_isLineWord cX4_isLineWord 1 (some .boolean) 1 23 [] μ (fun r => (some (.int (bI r)), μ)) (m_isLineWord μ) := by
  refine CtM.of (by decide) rfl (fun _ => Nat.le_of_ble_eq_true rfl) ?_
  intro l D cl ci cA am p e s m args below meth c hcl K hr hlk hK
  refine g_sub (ls' := [(0, .ref am)]) [0] rfl ?_
  unfold m_isLineWord
  refine g_aloadn K 0 rfl rfl 1 dX4_isLineWord_0 rfl ?_
  refine gm_get K hK hcl 14 4 (by decide) q1499 rfl dX4_isLineWord_1 rfl ?_
  refine g_iconst K (nI 2) ic_2 5 dX4_isLineWord_4 rfl ?_
  refine g_icmp_ne K 8 25 dX4_isLineWord_5 rfl (by decide) (fun _ => ?_) (fun _ => ?_)
  · refine g_aloadn K 0 rfl rfl 9 dX4_isLineWord_8 rfl ?_
    refine g_aloadn K 0 rfl rfl 10 dX4_isLineWord_9 rfl ?_
    refine gm_get K hK hcl 15 13 (by decide) q1500 rfl dX4_isLineWord_10 rfl ?_
    refine g_iconst K (nI 0) ic_0 14 dX4_isLineWord_13 rfl ?_
    refine g_iconst K (nI 2) ic_2 15 dX4_isLineWord_14 rfl ?_
    refine gm_call K hK hcl 18 (ct_isIn μ (μ 15 0) (nI 0) (nI 2)) (lw_V q1723 q1725 qs55 q158 q1726) wd_isIn (by decide) rfl (Nat.le_of_ble_eq_true rfl) dX4_isLineWord_15 rfl (fun r1 _ => ?_)
    refine g_if_eq K 21 25 dX4_isLineWord_18 rfl (by decide) (fun _ => ?_) (fun _ => ?_)
    · refine g_iconst K (nI 0) ic_0 26 dX4_isLineWord_25 rfl ?_
      exact gm_zret K hK hcl hr hlk (b := false) dX4_isLineWord_26 rfl rfl
    · refine g_iconst K (nI 1) ic_1 22 dX4_isLineWord_21 rfl ?_
      refine g_goto K 26 dX4_isLineWord_22 (by decide) ?_
      exact gm_zret K hK hcl hr hlk (b := true) dX4_isLineWord_26 rfl rfl
  · refine g_iconst K (nI 0) ic_0 26 dX4_isLineWord_25 rfl ?_
    exact gm_zret K hK hcl hr hlk (b := false) dX4_isLineWord_26 rfl rfl
/-- canAsk(I)Z -/
def m_canAsk (μ : Mem) (x1 : Int32) : Option (Bool) :=
  (m_isIn μ x1 (nI 7) (nI 18)).bind fun r1 =>
  some r1
theorem wd_canAsk : yX4_canAsk.cls = RX4 ∧ yX4_canAsk.cls ≠ "java/lang/invoke/MethodHandle" ∧ yX4_canAsk.cls ≠ "java/lang/invoke/VarHandle" ∧ (parseMethodDescriptor yX4_canAsk.desc).map (fun d => d.parameters.length) = some 1 := by decide +kernel
set_option maxRecDepth 100000 in
theorem ct_canAsk (μ : Mem) (x1 : Int32) : CtM yX4_canAsk cX4_canAsk 2 (some .boolean) 1 23 [.int x1] μ (fun r => (some (.int (bI r)), μ)) (m_canAsk μ x1) := by
  refine CtM.of (by decide) rfl (fun _ => Nat.le_of_ble_eq_true rfl) ?_
  intro l D cl ci cA am p e s m args below meth c hcl K hr hlk hK
  refine g_sub (ls' := [(0, .ref am), (1, .int x1)]) [0, 1] rfl ?_
  unfold m_canAsk
  refine g_aloadn K 0 rfl rfl 1 dX4_canAsk_0 rfl ?_
  refine g_iloadn K 1 rfl rfl 2 dX4_canAsk_1 rfl ?_
  refine g_bipush K (nI 7) bp_7 4 dX4_canAsk_2 rfl ?_
  refine g_bipush K (nI 18) bp_18 6 dX4_canAsk_4 rfl ?_
  refine gm_call K hK hcl 9 (ct_isIn μ x1 (nI 7) (nI 18)) (lw_V q1723 q1725 qs55 q158 q1726) wd_isIn (by decide) rfl (Nat.le_of_ble_eq_true rfl) dX4_canAsk_6 rfl (fun r1 _ => ?_)
  exact gm_zret K hK hcl hr hlk (b := r1) dX4_canAsk_9 rfl rfl
/-- emits(II)V -/
def m_emits (μ : Mem) (x1 : Int32) (x2 : Int32) : Option (Mem) :=
  (wr μ 22 1200 ((nI 800) + (μ 25 0)) x1).bind fun μ1 =>
  (wr μ1 23 1200 ((nI 800) + (μ1 25 0)) x2).bind fun μ2 =>
  nm (up2 μ2 25 0 ((μ2 25 0) + (nI 1))) fun μ3 =>
  some μ3
theorem wd_emits : yX4_emits.cls = RX4 ∧ yX4_emits.cls ≠ "java/lang/invoke/MethodHandle" ∧ yX4_emits.cls ≠ "java/lang/invoke/VarHandle" ∧ (parseMethodDescriptor yX4_emits.desc).map (fun d => d.parameters.length) = some 2 := by decide +kernel
set_option maxRecDepth 100000 in
theorem ct_emits (μ : Mem) (x1 : Int32) (x2 : Int32) : CtM yX4_emits cX4_emits 3 none 0 0 [.int x1, .int x2] μ (fun r => (none, r)) (m_emits μ x1 x2) := by
  refine CtM.of (by decide) rfl (fun _ => Nat.le_of_ble_eq_true rfl) ?_
  intro l D cl ci cA am p e s m args below meth c hcl K hr hlk hK
  refine g_sub (ls' := [(0, .ref am), (1, .int x1), (2, .int x2)]) [0, 1, 2] rfl ?_
  unfold m_emits
  refine g_aloadn K 0 rfl rfl 1 dX4_emits_0 rfl ?_
  refine gm_get K hK hcl 22 4 (by decide) q1507 rfl dX4_emits_1 rfl ?_
  refine g_sipush K (nI 800) sp_800 7 dX4_emits_4 rfl ?_
  refine g_aloadn K 0 rfl rfl 8 dX4_emits_7 rfl ?_
  refine gm_get K hK hcl 25 11 (by decide) q1510 rfl dX4_emits_8 rfl ?_
  refine g_iadd K 12 dX4_emits_11 rfl ?_
  refine g_iloadn K 1 rfl rfl 13 dX4_emits_12 rfl ?_
  refine gm_ast K hK hcl 22 14 1200 14 rfl (fun _ => rfl) dX4_emits_13 rfl (fun μ1 _ => ?_)
  refine g_aloadn K 0 rfl rfl 15 dX4_emits_14 rfl ?_
  refine gm_get K hK hcl 23 18 (by decide) q1508 rfl dX4_emits_15 rfl ?_
  refine g_sipush K (nI 800) sp_800 21 dX4_emits_18 rfl ?_
  refine g_aloadn K 0 rfl rfl 22 dX4_emits_21 rfl ?_
  refine gm_get K hK hcl 25 25 (by decide) q1510 rfl dX4_emits_22 rfl ?_
  refine g_iadd K 26 dX4_emits_25 rfl ?_
  refine g_iloadn K 2 rfl rfl 27 dX4_emits_26 rfl ?_
  refine gm_ast K hK hcl 23 15 1200 28 rfl (fun _ => rfl) dX4_emits_27 rfl (fun μ2 _ => ?_)
  refine g_aloadn K 0 rfl rfl 29 dX4_emits_28 rfl ?_
  refine g_aloadn K 0 rfl rfl 30 dX4_emits_29 rfl ?_
  refine gm_get K hK hcl 25 33 (by decide) q1510 rfl dX4_emits_30 rfl ?_
  refine g_iconst K (nI 1) ic_1 34 dX4_emits_33 rfl ?_
  refine g_iadd K 35 dX4_emits_34 rfl ?_
  refine gm_put K hK hcl 25 (ty := .int) 38 (by decide) q1510 rfl (by decide +kernel) rfl rfl rfl dX4_emits_35 rfl (fun μ3 _ => ?_)
  exact gm_vret K hK hcl hr hlk dX4_emits_38 rfl
