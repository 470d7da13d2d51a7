/-- GingerRents.loaf(II)I -/
def x0_loaf (I : Mem) (z : Nat) (x1 : Int32) (x2 : Int32) : Option (Int32 × Mem) :=
  if x1 = (-1 : Int32) then
  (x2_ends I (z + 211) 6).bind fun r5 =>
  some (r5.1, r5.2)
  else
  (x0_isIn x1 (nI 1) (nI 30)).bind fun r1 =>
  if (bI r1) = 0 then
  some ((-1 : Int32), I)
  else
  (x0_isIn x2 (nI 1) (nI 30)).bind fun r2 =>
  if (bI r2) = 0 then
  some ((-1 : Int32), I)
  else
  (x2_tells I (z + 211) 6 x1 x2).bind fun r3 =>
  some (r3.1, r3.2)
theorem wd_x0_loaf : yX0_loaf.cls = RX0 ∧ yX0_loaf.cls ≠ "java/lang/invoke/MethodHandle" ∧ yX0_loaf.cls ≠ "java/lang/invoke/VarHandle" ∧ (parseMethodDescriptor yX0_loaf.desc).map (fun d => d.parameters.length) = some 2 := by decide +kernel
set_option maxRecDepth 100000 in
theorem ctx_x0_loaf {cs : Cs} {z : Nat} {kd : Kd} (P : Ptr) (I : Mem) (x1 : Int32) (x2 : Int32) (hz : kd z = (0, 0, 0)) : CtX cs z kd yX0_loaf cX0_loaf 3 (some .int) 1 22 [.ref z, .int x1, .int x2] (P, I) (fun r => (some (.int r.1), (P, r.2))) (x0_loaf I z x1 x2) := by
  refine CtX.of RX0 (by decide) rfl (Nat.le_of_ble_eq_true rfl) ?_
  intro l D sz p e s m args below meth c hsh K hr hlk hK
  refine g_sub (ls' := [(0, .ref z), (1, .int x1), (2, .int x2)]) [0, 1, 2] rfl ?_
  unfold x0_loaf
  refine g_iloadn K 1 rfl rfl 1 dX0_loaf_0 rfl ?_
  refine g_iconst K (-1 : Int32) ic_m1 2 dX0_loaf_1 rfl ?_
  refine g_icmp_ne K 5 18 dX0_loaf_2 rfl (by decide) (fun _ => ?_) (fun _ => ?_)
  · refine g_aloadn K 0 rfl rfl 6 dX0_loaf_5 rfl ?_
    refine gx_get K hK hsh 4 (v := .ref (z + 2)) 9 in_X0 hz rfl (Nat.le_of_ble_eq_true rfl) rfl (by decide) (Or.inl q411) rfl dX0_loaf_6 rfl ?_
    refine gx_get K hK hsh 7 (v := .ref (z + 211)) 12 in_X1 (sh_0_borough hsh hz) rfl (Nat.le_of_ble_eq_true rfl) rfl (by decide) (Or.inr (nf_q312 hK.2)) rfl dX0_loaf_9 rfl ?_
    refine gx_call K hK hsh 15 (ctx_x2_ends P I (z + 211) 6 (sh_1_loaves hsh (sh_0_borough hsh hz))) (lw_V q1310 q1311 q1312 q153 q1313) wd_x2_ends (sh_1_loaves hsh (sh_0_borough hsh hz)) rfl (Nat.le_of_ble_eq_true rfl) rfl (by decide) rfl (Nat.le_of_ble_eq_true rfl) dX0_loaf_12 rfl (fun r5 hr6 => ?_)
    refine g_goto K 54 dX0_loaf_15 (by decide) ?_
    exact gx_iret K hK hsh hr hlk dX0_loaf_54 rfl
  · refine g_iloadn K 1 rfl rfl 19 dX0_loaf_18 rfl ?_
    refine g_iconst K (nI 1) ic_1 20 dX0_loaf_19 rfl ?_
    refine g_bipush K (nI 30) bp_30 22 dX0_loaf_20 rfl ?_
    refine g_callS K 25 (cts_x0_isIn x1 (nI 1) (nI 30)) (lw_S q478 q479 q151 q480) wds_x0_isIn (by decide) rfl (Nat.le_of_ble_eq_true rfl) dX0_loaf_22 rfl (fun r1 _ => ?_)
    refine g_if_eq K 28 53 dX0_loaf_25 rfl (by decide) (fun _ => ?_) (fun _ => ?_)
    · refine g_iconst K (-1 : Int32) ic_m1 54 dX0_loaf_53 rfl ?_
      exact gx_iret K hK hsh hr hlk dX0_loaf_54 rfl
    · refine g_iloadn K 2 rfl rfl 29 dX0_loaf_28 rfl ?_
      refine g_iconst K (nI 1) ic_1 30 dX0_loaf_29 rfl ?_
      refine g_bipush K (nI 30) bp_30 32 dX0_loaf_30 rfl ?_
      refine g_callS K 35 (cts_x0_isIn x2 (nI 1) (nI 30)) (lw_S q478 q479 q151 q480) wds_x0_isIn (by decide) rfl (Nat.le_of_ble_eq_true rfl) dX0_loaf_32 rfl (fun r2 _ => ?_)
      refine g_if_eq K 38 53 dX0_loaf_35 rfl (by decide) (fun _ => ?_) (fun _ => ?_)
      · refine g_iconst K (-1 : Int32) ic_m1 54 dX0_loaf_53 rfl ?_
        exact gx_iret K hK hsh hr hlk dX0_loaf_54 rfl
      · refine g_aloadn K 0 rfl rfl 39 dX0_loaf_38 rfl ?_
        refine gx_get K hK hsh 4 (v := .ref (z + 2)) 42 in_X0 hz rfl (Nat.le_of_ble_eq_true rfl) rfl (by decide) (Or.inl q411) rfl dX0_loaf_39 rfl ?_
        refine gx_get K hK hsh 7 (v := .ref (z + 211)) 45 in_X1 (sh_0_borough hsh hz) rfl (Nat.le_of_ble_eq_true rfl) rfl (by decide) (Or.inr (nf_q312 hK.2)) rfl dX0_loaf_42 rfl ?_
        refine g_iloadn K 1 rfl rfl 46 dX0_loaf_45 rfl ?_
        refine g_iloadn K 2 rfl rfl 47 dX0_loaf_46 rfl ?_
        refine gx_call K hK hsh 50 (ctx_x2_tells P I (z + 211) 6 x1 x2 (sh_1_loaves hsh (sh_0_borough hsh hz))) (lw_V q1314 q1315 q1316 q153 q1317) wd_x2_tells (sh_1_loaves hsh (sh_0_borough hsh hz)) rfl (Nat.le_of_ble_eq_true rfl) rfl (by decide) rfl (Nat.le_of_ble_eq_true rfl) dX0_loaf_47 rfl (fun r3 hr4 => ?_)
        refine g_goto K 54 dX0_loaf_50 (by decide) ?_
        exact gx_iret K hK hsh hr hlk dX0_loaf_54 rfl
/-- GingerRents.areAlone(I)Z -/
def x0_areAlone (kd : Kd) (P : Ptr) (I : Mem) (z : Nat) (x1 : Int32) : Option (Bool) :=
  lp (fun again2 (j1 : Int32) =>
  if (I (z + 2) 14) ≤ j1 then
  some true
  else
  if ((x1 >>> (j1 &&& 31)) &&& (nI 1)) = (nI 1) then
  (pk kd (P (z + 2) 13) (20, 12, 0)).bind fun b4 =>
  (rd I b4 12 j1).bind fun v6 =>
  if (v6 &&& x1) = 0 then
  again2 (j1 + (nI 1))
  else
  some false
  else
  again2 (j1 + (nI 1))) fuel (nI 0)
theorem wd_x0_areAlone : yX0_areAlone.cls = RX0 ∧ yX0_areAlone.cls ≠ "java/lang/invoke/MethodHandle" ∧ yX0_areAlone.cls ≠ "java/lang/invoke/VarHandle" ∧ (parseMethodDescriptor yX0_areAlone.desc).map (fun d => d.parameters.length) = some 1 := by decide +kernel
set_option maxRecDepth 100000 in
theorem ctx_x0_areAlone {cs : Cs} {z : Nat} {kd : Kd} (P : Ptr) (I : Mem) (x1 : Int32) (hz : kd z = (0, 0, 0)) : CtX cs z kd yX0_areAlone cX0_areAlone 3 (some .boolean) 0 0 [.ref z, .int x1] (P, I) (fun r => (some (.int (bI r)), (P, I))) (x0_areAlone kd P I z x1) := by
  refine CtX.of RX0 (by decide) rfl (Nat.le_of_ble_eq_true rfl) ?_
  intro l D sz p e s m args below meth c hsh K hr hlk hK
  refine g_sub (ls' := [(0, .ref z), (1, .int x1)]) [0, 1] rfl ?_
  unfold x0_areAlone
  refine g_iconst K (nI 0) ic_0 1 dX0_areAlone_0 rfl ?_
  refine g_istoren K [(0, .ref z), (1, .int x1), (2, .int (nI 0))] [1, 2, 0] rfl (by decide) rfl 2 dX0_areAlone_1 rfl ?_
  refine g_lp (head := 2) (L := fun j1 => [(0, .ref z), (1, .int x1), (2, .int j1)]) (sf := fun j1 => []) (mf := fun j1 => (P, I)) (fun again2 h3 j1 => ?_) fuel (nI 0)
  try dsimp only
  refine g_iloadn K 2 rfl rfl 3 dX0_areAlone_2 rfl ?_
  refine g_aloadn K 0 rfl rfl 4 dX0_areAlone_3 rfl ?_
  refine gx_get K hK hsh 4 (v := .ref (z + 2)) 7 in_X0 hz rfl (Nat.le_of_ble_eq_true rfl) rfl (by decide) (Or.inl q411) rfl dX0_areAlone_4 rfl ?_
  refine gx_get K hK hsh 14 (v := .int (I (z + 2) 14)) 10 in_X1 (sh_0_borough hsh hz) rfl (Nat.le_of_ble_eq_true rfl) rfl (by decide) (Or.inr (nf_q327 hK.2)) rfl dX0_areAlone_7 rfl ?_
  refine g_icmp_ge K 13 44 dX0_areAlone_10 rfl (by decide) (fun _ => ?_) (fun _ => ?_)
  · refine g_iconst K (nI 1) ic_1 45 dX0_areAlone_44 rfl ?_
    exact gx_zret K hK hsh hr hlk (b := true) dX0_areAlone_45 rfl rfl
  · refine g_iloadn K 1 rfl rfl 14 dX0_areAlone_13 rfl ?_
    refine g_iloadn K 2 rfl rfl 15 dX0_areAlone_14 rfl ?_
    refine g_ishr K 16 dX0_areAlone_15 rfl ?_
    refine g_iconst K (nI 1) ic_1 17 dX0_areAlone_16 rfl ?_
    refine g_iand K 18 dX0_areAlone_17 rfl ?_
    refine g_iconst K (nI 1) ic_1 19 dX0_areAlone_18 rfl ?_
    refine g_icmp_ne K 22 38 dX0_areAlone_19 rfl (by decide) (fun _ => ?_) (fun _ => ?_)
    · refine g_aloadn K 0 rfl rfl 23 dX0_areAlone_22 rfl ?_
      refine gx_get K hK hsh 4 (v := .ref (z + 2)) 26 in_X0 hz rfl (Nat.le_of_ble_eq_true rfl) rfl (by decide) (Or.inl q411) rfl dX0_areAlone_23 rfl ?_
      refine gx_getp K hK hsh 13 (20, 12, 0) 29 in_X1 (sh_0_borough hsh hz) rfl (Nat.le_of_ble_eq_true rfl) rfl (by decide) (Or.inr (nf_q324 hK.2)) rfl dX0_areAlone_26 rfl (fun b4 hb5 => ?_)
      refine g_iloadn K 2 rfl rfl 30 dX0_areAlone_29 rfl ?_
      refine gx_ald K hK hsh 31 hb5 dX0_areAlone_30 rfl (fun v6 => ?_)
      refine g_iloadn K 1 rfl rfl 32 dX0_areAlone_31 rfl ?_
      refine g_iand K 33 dX0_areAlone_32 rfl ?_
      refine g_if_eq K 36 38 dX0_areAlone_33 rfl (by decide) (fun _ => ?_) (fun _ => ?_)
      · refine g_iinc K (j1 + (nI 1)) 2 [(0, .ref z), (1, .int x1), (2, .int (j1 + (nI 1)))] [1, 2, 0] rfl (by rw [ic_1]) (by decide) rfl 41 dX0_areAlone_38 rfl ?_
        refine g_goto K 2 dX0_areAlone_41 (by decide) ?_
        exact h3 (j1 + (nI 1))
      · refine g_iconst K (nI 0) ic_0 37 dX0_areAlone_36 rfl ?_
        exact gx_zret K hK hsh hr hlk (b := false) dX0_areAlone_37 rfl rfl
    · refine g_iinc K (j1 + (nI 1)) 2 [(0, .ref z), (1, .int x1), (2, .int (j1 + (nI 1)))] [1, 2, 0] rfl (by rw [ic_1]) (by decide) rfl 41 dX0_areAlone_38 rfl ?_
      refine g_goto K 2 dX0_areAlone_41 (by decide) ?_
      exact h3 (j1 + (nI 1))
/-- GingerRents.alone(I)I -/
def x0_alone (kd : Kd) (P : Ptr) (I : Mem) (z : Nat) (x1 : Int32) : Option (Int32) :=
  (x0_isIn x1 (nI 0) (nI 1)).bind fun r1 =>
  if (bI r1) = 0 then
  some (-1 : Int32)
  else
  (x1_standing I (z + 2)).bind fun r2 =>
  jn (fun (j4 : Int32) =>
  if x1 = 0 then
  (j4_bitCount j4).bind fun r7 =>
  some r7
  else
  some j4) (fun k5 =>
  lp (fun again9 (j8 : Int32 × Int32) =>
  if r2 < j8.2 then
  k5 j8.1
  else
  if (j8.2 &&& (r2 ^^^ (-1 : Int32))) = 0 then
  (j4_bitCount j8.2).bind fun r11 =>
  (j4_bitCount j8.1).bind fun r12 =>
  if r11 ≤ r12 then
  again9 (j8.1, (j8.2 + (nI 1)))
  else
  (x0_areAlone kd P I z j8.2).bind fun r13 =>
  if (bI r13) = 0 then
  again9 (j8.1, (j8.2 + (nI 1)))
  else
  again9 (j8.2, (j8.2 + (nI 1)))
  else
  again9 (j8.1, (j8.2 + (nI 1)))) fuel ((nI 0), (nI 1)))
theorem wd_x0_alone : yX0_alone.cls = RX0 ∧ yX0_alone.cls ≠ "java/lang/invoke/MethodHandle" ∧ yX0_alone.cls ≠ "java/lang/invoke/VarHandle" ∧ (parseMethodDescriptor yX0_alone.desc).map (fun d => d.parameters.length) = some 1 := by decide +kernel
set_option maxRecDepth 100000 in
theorem ctx_x0_alone {cs : Cs} {z : Nat} {kd : Kd} (P : Ptr) (I : Mem) (x1 : Int32) (hz : kd z = (0, 0, 0)) : CtX cs z kd yX0_alone cX0_alone 5 (some .int) 3 67 [.ref z, .int x1] (P, I) (fun r => (some (.int r), (P, I))) (x0_alone kd P I z x1) := by
  refine CtX.of RX0 (by decide) rfl (Nat.le_of_ble_eq_true rfl) ?_
  intro l D sz p e s m args below meth c hsh K hr hlk hK
  refine g_sub (ls' := [(0, .ref z), (1, .int x1)]) [0, 1] rfl ?_
  unfold x0_alone
  refine g_iloadn K 1 rfl rfl 1 dX0_alone_0 rfl ?_
  refine g_iconst K (nI 0) ic_0 2 dX0_alone_1 rfl ?_
  refine g_iconst K (nI 1) ic_1 3 dX0_alone_2 rfl ?_
  refine g_callS K 6 (cts_x0_isIn x1 (nI 0) (nI 1)) (lw_S q478 q479 q151 q480) wds_x0_isIn (by decide) rfl (Nat.le_of_ble_eq_true rfl) dX0_alone_3 rfl (fun r1 _ => ?_)
  refine g_if_ne K 9 11 dX0_alone_6 rfl (by decide) (fun _ => ?_) (fun _ => ?_)
  · refine g_iconst K (-1 : Int32) ic_m1 10 dX0_alone_9 rfl ?_
    exact gx_iret K hK hsh hr hlk dX0_alone_10 rfl
  · refine g_aloadn K 0 rfl rfl 12 dX0_alone_11 rfl ?_
    refine gx_get K hK hsh 4 (v := .ref (z + 2)) 15 in_X0 hz rfl (Nat.le_of_ble_eq_true rfl) rfl (by decide) (Or.inl q411) rfl dX0_alone_12 rfl ?_
    refine gx_call K hK hsh 18 (ctx_x1_standing P I (z + 2) (sh_0_borough hsh hz)) (lw_V q1274 q1071 q1072 q152 q1073) wd_x1_standing (sh_0_borough hsh hz) rfl (Nat.le_of_ble_eq_true rfl) rfl (by decide) rfl (Nat.le_of_ble_eq_true rfl) dX0_alone_15 rfl (fun r2 hr3 => ?_)
    refine g_istoren K [(0, .ref z), (1, .int x1), (2, .int r2)] [1, 2, 0] rfl (by decide) rfl 19 dX0_alone_18 rfl ?_
    refine g_iconst K (nI 0) ic_0 20 dX0_alone_19 rfl ?_
    refine g_istoren K [(0, .ref z), (1, .int x1), (2, .int r2), (3, .int (nI 0))] [1, 2, 3, 0] rfl (by decide) rfl 21 dX0_alone_20 rfl ?_
    refine g_iconst K (nI 1) ic_1 22 dX0_alone_21 rfl ?_
    refine g_istore K [(0, .ref z), (1, .int x1), (2, .int r2), (3, .int (nI 0)), (4, .int (nI 1))] [1, 2, 3, 4, 0] (by decide) rfl 24 dX0_alone_22 rfl ?_
    refine g_jn (head := 69) (L := fun j4 => [(0, .ref z), (1, .int x1), (3, .int j4)]) (sf := fun j4 => []) (mf := fun j4 => (P, I)) (fun j4 => ?_) (fun k5 h6 => ?_)
    · try dsimp only
      refine g_iloadn K 1 rfl rfl 70 dX0_alone_69 rfl ?_
      refine g_if_ne K 73 80 dX0_alone_70 rfl (by decide) (fun _ => ?_) (fun _ => ?_)
      · refine g_iloadn K 2 rfl rfl 74 dX0_alone_73 rfl ?_
        refine g_callS K 77 (cts_j4_bitCount j4) (lw_S q1275 q1249 q160 q1250) wds_j4_bitCount (by decide) rfl (Nat.le_of_ble_eq_true rfl) dX0_alone_74 rfl (fun r7 _ => ?_)
        refine g_goto K 81 dX0_alone_77 (by decide) ?_
        exact gx_iret K hK hsh hr hlk dX0_alone_81 rfl
      · refine g_iloadn K 2 rfl rfl 81 dX0_alone_80 rfl ?_
        exact gx_iret K hK hsh hr hlk dX0_alone_81 rfl
    · refine g_lp (head := 24) (L := fun j8 => [(0, .ref z), (1, .int x1), (2, .int r2), (3, .int j8.1), (4, .int j8.2)]) (sf := fun j8 => []) (mf := fun j8 => (P, I)) (fun again9 h10 j8 => ?_) fuel ((nI 0), (nI 1))
      try dsimp only
      refine g_iload K 4 rfl 26 dX0_alone_24 rfl ?_
      refine g_iloadn K 2 rfl rfl 27 dX0_alone_26 rfl ?_
      refine g_icmp_gt K 30 69 dX0_alone_27 rfl (by decide) (fun _ => ?_) (fun _ => ?_)
      · refine g_sub (ls' := [(0, .ref z), (1, .int x1), (3, .int j8.1)]) [0, 1, 3] rfl ?_
        exact h6 j8.1
      · refine g_iload K 4 rfl 32 dX0_alone_30 rfl ?_
        refine g_iloadn K 2 rfl rfl 33 dX0_alone_32 rfl ?_
        refine g_iconst K (-1 : Int32) ic_m1 34 dX0_alone_33 rfl ?_
        refine g_ixor K 35 dX0_alone_34 rfl ?_
        refine g_iand K 36 dX0_alone_35 rfl ?_
        refine g_if_ne K 39 63 dX0_alone_36 rfl (by decide) (fun _ => ?_) (fun _ => ?_)
        · refine g_iload K 4 rfl 41 dX0_alone_39 rfl ?_
          refine g_callS K 44 (cts_j4_bitCount j8.2) (lw_S q1275 q1249 q160 q1250) wds_j4_bitCount (by decide) rfl (Nat.le_of_ble_eq_true rfl) dX0_alone_41 rfl (fun r11 _ => ?_)
          refine g_iloadn K 3 rfl rfl 45 dX0_alone_44 rfl ?_
          refine g_callS K 48 (cts_j4_bitCount j8.1) (lw_S q1275 q1249 q160 q1250) wds_j4_bitCount (by decide) rfl (Nat.le_of_ble_eq_true rfl) dX0_alone_45 rfl (fun r12 _ => ?_)
          refine g_icmp_le K 51 63 dX0_alone_48 rfl (by decide) (fun _ => ?_) (fun _ => ?_)
          · refine g_iinc K (j8.2 + (nI 1)) 4 [(0, .ref z), (1, .int x1), (2, .int r2), (3, .int j8.1), (4, .int (j8.2 + (nI 1)))] [1, 2, 3, 4, 0] rfl (by rw [ic_1]) (by decide) rfl 66 dX0_alone_63 rfl ?_
            refine g_goto K 24 dX0_alone_66 (by decide) ?_
            exact h10 (j8.1, (j8.2 + (nI 1)))
          · refine g_aloadn K 0 rfl rfl 52 dX0_alone_51 rfl ?_
            refine g_iload K 4 rfl 54 dX0_alone_52 rfl ?_
            refine gx_call K hK hsh 57 (ctx_x0_areAlone P I j8.2 hz) (lw_V q1408 q1410 qs49 q151 q1411) wd_x0_areAlone hz rfl (Nat.le_of_ble_eq_true rfl) rfl (by decide) rfl (Nat.le_of_ble_eq_true rfl) dX0_alone_54 rfl (fun r13 hr14 => ?_)
            refine g_if_eq K 60 63 dX0_alone_57 rfl (by decide) (fun _ => ?_) (fun _ => ?_)
            · refine g_iinc K (j8.2 + (nI 1)) 4 [(0, .ref z), (1, .int x1), (2, .int r2), (3, .int j8.1), (4, .int (j8.2 + (nI 1)))] [1, 2, 3, 4, 0] rfl (by rw [ic_1]) (by decide) rfl 66 dX0_alone_63 rfl ?_
              refine g_goto K 24 dX0_alone_66 (by decide) ?_
              exact h10 (j8.1, (j8.2 + (nI 1)))
            · refine g_iload K 4 rfl 62 dX0_alone_60 rfl ?_
              refine g_istoren K [(0, .ref z), (1, .int x1), (2, .int r2), (3, .int j8.2), (4, .int j8.2)] [1, 2, 3, 0, 4] rfl (by decide) rfl 63 dX0_alone_62 rfl ?_
              refine g_iinc K (j8.2 + (nI 1)) 4 [(0, .ref z), (1, .int x1), (2, .int r2), (3, .int j8.2), (4, .int (j8.2 + (nI 1)))] [1, 2, 3, 4, 0] rfl (by rw [ic_1]) (by decide) rfl 66 dX0_alone_63 rfl ?_
              refine g_goto K 24 dX0_alone_66 (by decide) ?_
              exact h10 (j8.2, (j8.2 + (nI 1)))
        · refine g_iinc K (j8.2 + (nI 1)) 4 [(0, .ref z), (1, .int x1), (2, .int r2), (3, .int j8.1), (4, .int (j8.2 + (nI 1)))] [1, 2, 3, 4, 0] rfl (by rw [ic_1]) (by decide) rfl 66 dX0_alone_63 rfl ?_
          refine g_goto K 24 dX0_alone_66 (by decide) ?_
          exact h10 (j8.1, (j8.2 + (nI 1)))
/-- GingerRents.heir(II)I -/
def x0_heir (I : Mem) (z : Nat) (x1 : Int32) (x2 : Int32) : Option (Int32 × Mem) :=
  if x1 = (-1 : Int32) then
  (x2_ends I (z + 219) 12).bind fun r5 =>
  some (r5.1, r5.2)
  else
  (x0_isIn x1 (nI 0) (nI 11)).bind fun r1 =>
  if (bI r1) = 0 then
  some ((-1 : Int32), I)
  else
  (x0_isIn x2 (nI 0) (nI 11)).bind fun r2 =>
  if (bI r2) = 0 then
  some ((-1 : Int32), I)
  else
  if x1 = x2 then
  some ((-1 : Int32), I)
  else
  (x2_tells I (z + 219) 12 x1 x2).bind fun r3 =>
  some (r3.1, r3.2)
theorem wd_x0_heir : yX0_heir.cls = RX0 ∧ yX0_heir.cls ≠ "java/lang/invoke/MethodHandle" ∧ yX0_heir.cls ≠ "java/lang/invoke/VarHandle" ∧ (parseMethodDescriptor yX0_heir.desc).map (fun d => d.parameters.length) = some 2 := by decide +kernel
set_option maxRecDepth 100000 in
theorem ctx_x0_heir {cs : Cs} {z : Nat} {kd : Kd} (P : Ptr) (I : Mem) (x1 : Int32) (x2 : Int32) (hz : kd z = (0, 0, 0)) : CtX cs z kd yX0_heir cX0_heir 3 (some .int) 1 22 [.ref z, .int x1, .int x2] (P, I) (fun r => (some (.int r.1), (P, r.2))) (x0_heir I z x1 x2) := by
  refine CtX.of RX0 (by decide) rfl (Nat.le_of_ble_eq_true rfl) ?_
  intro l D sz p e s m args below meth c hsh K hr hlk hK
  refine g_sub (ls' := [(0, .ref z), (1, .int x1), (2, .int x2)]) [0, 1, 2] rfl ?_
  unfold x0_heir
  refine g_iloadn K 1 rfl rfl 1 dX0_heir_0 rfl ?_
  refine g_iconst K (-1 : Int32) ic_m1 2 dX0_heir_1 rfl ?_
  refine g_icmp_ne K 5 18 dX0_heir_2 rfl (by decide) (fun _ => ?_) (fun _ => ?_)
  · refine g_aloadn K 0 rfl rfl 6 dX0_heir_5 rfl ?_
    refine gx_get K hK hsh 4 (v := .ref (z + 2)) 9 in_X0 hz rfl (Nat.le_of_ble_eq_true rfl) rfl (by decide) (Or.inl q411) rfl dX0_heir_6 rfl ?_
    refine gx_get K hK hsh 8 (v := .ref (z + 219)) 12 in_X1 (sh_0_borough hsh hz) rfl (Nat.le_of_ble_eq_true rfl) rfl (by decide) (Or.inr (nf_q314 hK.2)) rfl dX0_heir_9 rfl ?_
    refine gx_call K hK hsh 15 (ctx_x2_ends P I (z + 219) 12 (sh_1_heirs hsh (sh_0_borough hsh hz))) (lw_V q1310 q1311 q1312 q153 q1313) wd_x2_ends (sh_1_heirs hsh (sh_0_borough hsh hz)) rfl (Nat.le_of_ble_eq_true rfl) rfl (by decide) rfl (Nat.le_of_ble_eq_true rfl) dX0_heir_12 rfl (fun r5 hr6 => ?_)
    refine g_goto K 59 dX0_heir_15 (by decide) ?_
    exact gx_iret K hK hsh hr hlk dX0_heir_59 rfl
  · refine g_iloadn K 1 rfl rfl 19 dX0_heir_18 rfl ?_
    refine g_iconst K (nI 0) ic_0 20 dX0_heir_19 rfl ?_
    refine g_bipush K (nI 11) bp_11 22 dX0_heir_20 rfl ?_
    refine g_callS K 25 (cts_x0_isIn x1 (nI 0) (nI 11)) (lw_S q478 q479 q151 q480) wds_x0_isIn (by decide) rfl (Nat.le_of_ble_eq_true rfl) dX0_heir_22 rfl (fun r1 _ => ?_)
    refine g_if_eq K 28 58 dX0_heir_25 rfl (by decide) (fun _ => ?_) (fun _ => ?_)
    · refine g_iconst K (-1 : Int32) ic_m1 59 dX0_heir_58 rfl ?_
      exact gx_iret K hK hsh hr hlk dX0_heir_59 rfl
    · refine g_iloadn K 2 rfl rfl 29 dX0_heir_28 rfl ?_
      refine g_iconst K (nI 0) ic_0 30 dX0_heir_29 rfl ?_
      refine g_bipush K (nI 11) bp_11 32 dX0_heir_30 rfl ?_
      refine g_callS K 35 (cts_x0_isIn x2 (nI 0) (nI 11)) (lw_S q478 q479 q151 q480) wds_x0_isIn (by decide) rfl (Nat.le_of_ble_eq_true rfl) dX0_heir_32 rfl (fun r2 _ => ?_)
      refine g_if_eq K 38 58 dX0_heir_35 rfl (by decide) (fun _ => ?_) (fun _ => ?_)
      · refine g_iconst K (-1 : Int32) ic_m1 59 dX0_heir_58 rfl ?_
        exact gx_iret K hK hsh hr hlk dX0_heir_59 rfl
      · refine g_iloadn K 1 rfl rfl 39 dX0_heir_38 rfl ?_
        refine g_iloadn K 2 rfl rfl 40 dX0_heir_39 rfl ?_
        refine g_icmp_eq K 43 58 dX0_heir_40 rfl (by decide) (fun _ => ?_) (fun _ => ?_)
        · refine g_iconst K (-1 : Int32) ic_m1 59 dX0_heir_58 rfl ?_
          exact gx_iret K hK hsh hr hlk dX0_heir_59 rfl
        · refine g_aloadn K 0 rfl rfl 44 dX0_heir_43 rfl ?_
          refine gx_get K hK hsh 4 (v := .ref (z + 2)) 47 in_X0 hz rfl (Nat.le_of_ble_eq_true rfl) rfl (by decide) (Or.inl q411) rfl dX0_heir_44 rfl ?_
          refine gx_get K hK hsh 8 (v := .ref (z + 219)) 50 in_X1 (sh_0_borough hsh hz) rfl (Nat.le_of_ble_eq_true rfl) rfl (by decide) (Or.inr (nf_q314 hK.2)) rfl dX0_heir_47 rfl ?_
          refine g_iloadn K 1 rfl rfl 51 dX0_heir_50 rfl ?_
          refine g_iloadn K 2 rfl rfl 52 dX0_heir_51 rfl ?_
          refine gx_call K hK hsh 55 (ctx_x2_tells P I (z + 219) 12 x1 x2 (sh_1_heirs hsh (sh_0_borough hsh hz))) (lw_V q1314 q1315 q1316 q153 q1317) wd_x2_tells (sh_1_heirs hsh (sh_0_borough hsh hz)) rfl (Nat.le_of_ble_eq_true rfl) rfl (by decide) rfl (Nat.le_of_ble_eq_true rfl) dX0_heir_52 rfl (fun r3 hr4 => ?_)
          refine g_goto K 59 dX0_heir_55 (by decide) ?_
          exact gx_iret K hK hsh hr hlk dX0_heir_59 rfl
/-- GingerRents.ahead(I)I -/
def x0_ahead (I : Mem) (z : Nat) (x1 : Int32) : Option (Int32) :=
  jn (fun (j1 : Int32) =>
  (x2_second I (z + 219) 12 j1).bind fun r4 =>
  some r4) (fun k2 =>
  lp (fun again7 (j6 : Int32) =>
  if (I (z + 219) 1) ≤ j6 then
  some (-1 : Int32)
  else
  (x2_first I (z + 219) 12 j6).bind fun r9 =>
  if r9 = x1 then
  k2 j6
  else
  again7 (j6 + (nI 1))) fuel (nI 0))
theorem wd_x0_ahead : yX0_ahead.cls = RX0 ∧ yX0_ahead.cls ≠ "java/lang/invoke/MethodHandle" ∧ yX0_ahead.cls ≠ "java/lang/invoke/VarHandle" ∧ (parseMethodDescriptor yX0_ahead.desc).map (fun d => d.parameters.length) = some 1 := by decide +kernel
set_option maxRecDepth 100000 in
theorem ctx_x0_ahead {cs : Cs} {z : Nat} {kd : Kd} (P : Ptr) (I : Mem) (x1 : Int32) (hz : kd z = (0, 0, 0)) : CtX cs z kd yX0_ahead cX0_ahead 3 (some .int) 1 21 [.ref z, .int x1] (P, I) (fun r => (some (.int r), (P, I))) (x0_ahead I z x1) := by
  refine CtX.of RX0 (by decide) rfl (Nat.le_of_ble_eq_true rfl) ?_
  intro l D sz p e s m args below meth c hsh K hr hlk hK
  refine g_sub (ls' := [(0, .ref z), (1, .int x1)]) [0, 1] rfl ?_
  unfold x0_ahead
  refine g_iconst K (nI 0) ic_0 1 dX0_ahead_0 rfl ?_
  refine g_istoren K [(0, .ref z), (1, .int x1), (2, .int (nI 0))] [1, 2, 0] rfl (by decide) rfl 2 dX0_ahead_1 rfl ?_
  refine g_jn (head := 31) (L := fun j1 => [(0, .ref z), (2, .int j1)]) (sf := fun j1 => []) (mf := fun j1 => (P, I)) (fun j1 => ?_) (fun k2 h3 => ?_)
  · try dsimp only
    refine g_aloadn K 0 rfl rfl 32 dX0_ahead_31 rfl ?_
    refine gx_get K hK hsh 4 (v := .ref (z + 2)) 35 in_X0 hz rfl (Nat.le_of_ble_eq_true rfl) rfl (by decide) (Or.inl q411) rfl dX0_ahead_32 rfl ?_
    refine gx_get K hK hsh 8 (v := .ref (z + 219)) 38 in_X1 (sh_0_borough hsh hz) rfl (Nat.le_of_ble_eq_true rfl) rfl (by decide) (Or.inr (nf_q314 hK.2)) rfl dX0_ahead_35 rfl ?_
    refine g_iloadn K 1 rfl rfl 39 dX0_ahead_38 rfl ?_
    refine gx_call K hK hsh 42 (ctx_x2_second P I (z + 219) 12 j1 (sh_1_heirs hsh (sh_0_borough hsh hz))) (lw_V q1380 q1381 q1382 q153 q1383) wd_x2_second (sh_1_heirs hsh (sh_0_borough hsh hz)) rfl (Nat.le_of_ble_eq_true rfl) rfl (by decide) rfl (Nat.le_of_ble_eq_true rfl) dX0_ahead_39 rfl (fun r4 hr5 => ?_)
    exact gx_iret K hK hsh hr hlk dX0_ahead_42 rfl
  · refine g_lp (head := 2) (L := fun j6 => [(0, .ref z), (1, .int x1), (2, .int j6)]) (sf := fun j6 => []) (mf := fun j6 => (P, I)) (fun again7 h8 j6 => ?_) fuel (nI 0)
    try dsimp only
    refine g_iloadn K 2 rfl rfl 3 dX0_ahead_2 rfl ?_
    refine g_aloadn K 0 rfl rfl 4 dX0_ahead_3 rfl ?_
    refine gx_get K hK hsh 4 (v := .ref (z + 2)) 7 in_X0 hz rfl (Nat.le_of_ble_eq_true rfl) rfl (by decide) (Or.inl q411) rfl dX0_ahead_4 rfl ?_
    refine gx_get K hK hsh 8 (v := .ref (z + 219)) 10 in_X1 (sh_0_borough hsh hz) rfl (Nat.le_of_ble_eq_true rfl) rfl (by decide) (Or.inr (nf_q314 hK.2)) rfl dX0_ahead_7 rfl ?_
    refine gx_get K hK hsh 1 (v := .int (I (z + 219) 1)) 13 in_X2 (sh_1_heirs hsh (sh_0_borough hsh hz)) rfl (Nat.le_of_ble_eq_true rfl) rfl (by decide) (Or.inr (nf_q213 hK.2)) rfl dX0_ahead_10 rfl ?_
    refine g_icmp_ge K 16 49 dX0_ahead_13 rfl (by decide) (fun _ => ?_) (fun _ => ?_)
    · refine g_iconst K (-1 : Int32) ic_m1 50 dX0_ahead_49 rfl ?_
      exact gx_iret K hK hsh hr hlk dX0_ahead_50 rfl
    · refine g_aloadn K 0 rfl rfl 17 dX0_ahead_16 rfl ?_
      refine gx_get K hK hsh 4 (v := .ref (z + 2)) 20 in_X0 hz rfl (Nat.le_of_ble_eq_true rfl) rfl (by decide) (Or.inl q411) rfl dX0_ahead_17 rfl ?_
      refine gx_get K hK hsh 8 (v := .ref (z + 219)) 23 in_X1 (sh_0_borough hsh hz) rfl (Nat.le_of_ble_eq_true rfl) rfl (by decide) (Or.inr (nf_q314 hK.2)) rfl dX0_ahead_20 rfl ?_
      refine g_iloadn K 2 rfl rfl 24 dX0_ahead_23 rfl ?_
      refine gx_call K hK hsh 27 (ctx_x2_first P I (z + 219) 12 j6 (sh_1_heirs hsh (sh_0_borough hsh hz))) (lw_V q1330 q1331 q1332 q153 q1333) wd_x2_first (sh_1_heirs hsh (sh_0_borough hsh hz)) rfl (Nat.le_of_ble_eq_true rfl) rfl (by decide) rfl (Nat.le_of_ble_eq_true rfl) dX0_ahead_24 rfl (fun r9 hr10 => ?_)
      refine g_iloadn K 1 rfl rfl 28 dX0_ahead_27 rfl ?_
      refine g_icmp_ne K 31 43 dX0_ahead_28 rfl (by decide) (fun _ => ?_) (fun _ => ?_)
      · refine g_sub (ls' := [(0, .ref z), (2, .int j6)]) [0, 2] rfl ?_
        exact h3 j6
      · refine g_iinc K (j6 + (nI 1)) 2 [(0, .ref z), (1, .int x1), (2, .int (j6 + (nI 1)))] [1, 2, 0] rfl (by rw [ic_1]) (by decide) rfl 46 dX0_ahead_43 rfl ?_
        refine g_goto K 2 dX0_ahead_46 (by decide) ?_
        exact h8 (j6 + (nI 1))
/-- GingerRents.line(II)I -/
def x0_line (I : Mem) (z : Nat) (x1 : Int32) (x2 : Int32) : Option (Int32) :=
  (x0_isIn x1 (nI 0) (nI 11)).bind fun r1 =>
  if (bI r1) = 0 then
  some (-1 : Int32)
  else
  (x0_isIn x2 (nI 0) (nI 1)).bind fun r2 =>
  if (bI r2) = 0 then
  some (-1 : Int32)
  else
  jn (fun (j3 : Int32 × Int32) =>
  if x2 = 0 then
  some j3.2
  else
  some j3.1) (fun k4 =>
  lp (fun again7 (j6 : Int32 × Int32) =>
  if (nI 12) ≤ j6.2 then
  some (-1 : Int32)
  else
  (x0_ahead I z j6.1).bind fun r9 =>
  if r9 = (-1 : Int32) then
  k4 (j6.1, j6.2)
  else
  (x0_ahead I z j6.1).bind fun r11 =>
  again7 (r11, (j6.2 + (nI 1)))) fuel (x1, (nI 0)))
theorem wd_x0_line : yX0_line.cls = RX0 ∧ yX0_line.cls ≠ "java/lang/invoke/MethodHandle" ∧ yX0_line.cls ≠ "java/lang/invoke/VarHandle" ∧ (parseMethodDescriptor yX0_line.desc).map (fun d => d.parameters.length) = some 2 := by decide +kernel
set_option maxRecDepth 100000 in
theorem ctx_x0_line {cs : Cs} {z : Nat} {kd : Kd} (P : Ptr) (I : Mem) (x1 : Int32) (x2 : Int32) (hz : kd z = (0, 0, 0)) : CtX cs z kd yX0_line cX0_line 5 (some .int) 2 43 [.ref z, .int x1, .int x2] (P, I) (fun r => (some (.int r), (P, I))) (x0_line I z x1 x2) := by
  refine CtX.of RX0 (by decide) rfl (Nat.le_of_ble_eq_true rfl) ?_
  intro l D sz p e s m args below meth c hsh K hr hlk hK
  refine g_sub (ls' := [(0, .ref z), (1, .int x1), (2, .int x2)]) [0, 1, 2] rfl ?_
  unfold x0_line
  refine g_iloadn K 1 rfl rfl 1 dX0_line_0 rfl ?_
  refine g_iconst K (nI 0) ic_0 2 dX0_line_1 rfl ?_
  refine g_bipush K (nI 11) bp_11 4 dX0_line_2 rfl ?_
  refine g_callS K 7 (cts_x0_isIn x1 (nI 0) (nI 11)) (lw_S q478 q479 q151 q480) wds_x0_isIn (by decide) rfl (Nat.le_of_ble_eq_true rfl) dX0_line_4 rfl (fun r1 _ => ?_)
  refine g_if_eq K 10 19 dX0_line_7 rfl (by decide) (fun _ => ?_) (fun _ => ?_)
  · refine g_iconst K (-1 : Int32) ic_m1 20 dX0_line_19 rfl ?_
    exact gx_iret K hK hsh hr hlk dX0_line_20 rfl
  · refine g_iloadn K 2 rfl rfl 11 dX0_line_10 rfl ?_
    refine g_iconst K (nI 0) ic_0 12 dX0_line_11 rfl ?_
    refine g_iconst K (nI 1) ic_1 13 dX0_line_12 rfl ?_
    refine g_callS K 16 (cts_x0_isIn x2 (nI 0) (nI 1)) (lw_S q478 q479 q151 q480) wds_x0_isIn (by decide) rfl (Nat.le_of_ble_eq_true rfl) dX0_line_13 rfl (fun r2 _ => ?_)
    refine g_if_ne K 19 21 dX0_line_16 rfl (by decide) (fun _ => ?_) (fun _ => ?_)
    · refine g_iconst K (-1 : Int32) ic_m1 20 dX0_line_19 rfl ?_
      exact gx_iret K hK hsh hr hlk dX0_line_20 rfl
    · refine g_iloadn K 1 rfl rfl 22 dX0_line_21 rfl ?_
      refine g_istoren K [(0, .ref z), (2, .int x2), (3, .int x1)] [1, 3, 0] rfl (by decide) rfl 23 dX0_line_22 rfl ?_
      refine g_iconst K (nI 0) ic_0 24 dX0_line_23 rfl ?_
      refine g_istore K [(0, .ref z), (2, .int x2), (3, .int x1), (4, .int (nI 0))] [1, 2, 3, 0] (by decide) rfl 26 dX0_line_24 rfl ?_
      refine g_jn (head := 42) (L := fun j3 => [(0, .ref z), (2, .int x2), (3, .int j3.1), (4, .int j3.2)]) (sf := fun j3 => []) (mf := fun j3 => (P, I)) (fun j3 => ?_) (fun k4 h5 => ?_)
      · try dsimp only
        refine g_iloadn K 1 rfl rfl 43 dX0_line_42 rfl ?_
        refine g_if_ne K 46 51 dX0_line_43 rfl (by decide) (fun _ => ?_) (fun _ => ?_)
        · refine g_iload K 3 rfl 48 dX0_line_46 rfl ?_
          refine g_goto K 52 dX0_line_48 (by decide) ?_
          exact gx_iret K hK hsh hr hlk dX0_line_52 rfl
        · refine g_iloadn K 2 rfl rfl 52 dX0_line_51 rfl ?_
          exact gx_iret K hK hsh hr hlk dX0_line_52 rfl
      · refine g_lp (head := 26) (L := fun j6 => [(0, .ref z), (2, .int x2), (3, .int j6.1), (4, .int j6.2)]) (sf := fun j6 => []) (mf := fun j6 => (P, I)) (fun again7 h8 j6 => ?_) fuel (x1, (nI 0))
        try dsimp only
        refine g_iload K 3 rfl 28 dX0_line_26 rfl ?_
        refine g_bipush K (nI 12) bp_12 30 dX0_line_28 rfl ?_
        refine g_icmp_ge K 33 65 dX0_line_30 rfl (by decide) (fun _ => ?_) (fun _ => ?_)
        · refine g_iconst K (-1 : Int32) ic_m1 66 dX0_line_65 rfl ?_
          exact gx_iret K hK hsh hr hlk dX0_line_66 rfl
        · refine g_aloadn K 0 rfl rfl 34 dX0_line_33 rfl ?_
          refine g_iloadn K 2 rfl rfl 35 dX0_line_34 rfl ?_
          refine gx_call K hK hsh 38 (ctx_x0_ahead P I j6.1 hz) (lw_V q1420 q1422 qs50 q151 q1423) wd_x0_ahead hz rfl (Nat.le_of_ble_eq_true rfl) rfl (by decide) rfl (Nat.le_of_ble_eq_true rfl) dX0_line_35 rfl (fun r9 hr10 => ?_)
          refine g_iconst K (-1 : Int32) ic_m1 39 dX0_line_38 rfl ?_
          refine g_icmp_ne K 42 53 dX0_line_39 rfl (by decide) (fun _ => ?_) (fun _ => ?_)
          · exact h5 (j6.1, j6.2)
          · refine g_aloadn K 0 rfl rfl 54 dX0_line_53 rfl ?_
            refine g_iloadn K 2 rfl rfl 55 dX0_line_54 rfl ?_
            refine gx_call K hK hsh 58 (ctx_x0_ahead P I j6.1 hz) (lw_V q1420 q1422 qs50 q151 q1423) wd_x0_ahead hz rfl (Nat.le_of_ble_eq_true rfl) rfl (by decide) rfl (Nat.le_of_ble_eq_true rfl) dX0_line_55 rfl (fun r11 hr12 => ?_)
            refine g_istoren K [(0, .ref z), (2, .int x2), (3, .int r11), (4, .int j6.2)] [1, 2, 0, 3] rfl (by decide) rfl 59 dX0_line_58 rfl ?_
            refine g_iinc K (j6.2 + (nI 1)) 3 [(0, .ref z), (2, .int x2), (3, .int r11), (4, .int (j6.2 + (nI 1)))] [1, 2, 3, 0] rfl (by rw [ic_1]) (by decide) rfl 62 dX0_line_59 rfl ?_
            refine g_goto K 26 dX0_line_62 (by decide) ?_
            exact h8 (r11, (j6.2 + (nI 1)))
/-- GingerRents.window(I)I -/
def x0_window (I : Mem) (z : Nat) (x1 : Int32) : Option (Int32 × Mem) :=
  (x0_isIn x1 (nI 1) (nI 20)).bind fun r1 =>
  if (bI r1) = 0 then
  some ((-1 : Int32), I)
  else
  jn (fun (j2 : Mem) =>
  lp (fun again6 (j5 : Int32 × Int32) =>
  if (nI 4) ≤ j5.2 then
  some (j5.1, j2)
  else
  (ix 21 x1).bind fun i8 =>
  (rd j2 (z + 2441 + i8) 4 j5.2).bind fun v10 =>
  again6 ((j5.1 + v10), (j5.2 + (nI 1)))) fuel ((nI 0), (nI 0))) (fun k3 =>
  lp (fun again12 (j11 : Int32 × Mem) =>
  if x1 < j11.1 then
  k3 j11.2
  else
  lp (fun again15 (j14 : Int32 × Mem) =>
  if (nI 4) ≤ j14.1 then
  again12 ((j11.1 + (nI 1)), j14.2)
  else
  (ix 21 j11.1).bind fun i17 =>
  jn (fun (j19 : Int32) =>
  (wr j14.2 (z + 2441 + i17) 4 j14.1 j19).bind fun I22 =>
  lp (fun again24 (j23 : Int32 × Mem) =>
  if (nI 4) ≤ j23.1 then
  again15 ((j14.1 + (nI 1)), j23.2)
  else
  if j14.1 ≤ 0 then
  again15 ((j14.1 + (nI 1)), j23.2)
  else
  if j11.1 < j14.1 then
  again15 ((j14.1 + (nI 1)), j23.2)
  else
  (ix 21 j11.1).bind fun i26 =>
  (rd j23.2 (z + 2441 + i26) 4 j14.1).bind fun v28 =>
  jn (fun (j29 : Int32) =>
  (wr j23.2 (z + 2441 + i26) 4 j14.1 (v28 + j29)).bind fun I32 =>
  again24 ((j23.1 + (nI 1)), I32)) (fun k30 =>
  jn (fun (j33 : Unit) =>
  (ix 21 (j11.1 - j14.1)).bind fun i36 =>
  (rd j23.2 (z + 2441 + i36) 4 j23.1).bind fun v38 =>
  k30 v38) (fun k34 =>
  if j14.1 = (nI 3) then
  if j23.1 = (nI 3) then
  k30 (nI 0)
  else
  k34 ()
  else
  k34 ()))) fuel ((nI 0), I22)) (fun k20 =>
  if j11.1 = 0 then
  if j14.1 = 0 then
  k20 (nI 1)
  else
  k20 (nI 0)
  else
  k20 (nI 0))) fuel ((nI 0), j11.2)) fuel ((nI 0), I))
theorem wd_x0_window : yX0_window.cls = RX0 ∧ yX0_window.cls ≠ "java/lang/invoke/MethodHandle" ∧ yX0_window.cls ≠ "java/lang/invoke/VarHandle" ∧ (parseMethodDescriptor yX0_window.desc).map (fun d => d.parameters.length) = some 1 := by decide +kernel
set_option maxRecDepth 100000 in
theorem ctx_x0_window {cs : Cs} {z : Nat} {kd : Kd} (P : Ptr) (I : Mem) (x1 : Int32) (hz : kd z = (0, 0, 0)) : CtX cs z kd yX0_window cX0_window 6 (some .int) 1 22 [.ref z, .int x1] (P, I) (fun r => (some (.int r.1), (P, r.2))) (x0_window I z x1) := by
  refine CtX.of RX0 (by decide) rfl (Nat.le_of_ble_eq_true rfl) ?_
  intro l D sz p e s m args below meth c hsh K hr hlk hK
  refine g_sub (ls' := [(0, .ref z), (1, .int x1)]) [0, 1] rfl ?_
  unfold x0_window
  refine g_iloadn K 1 rfl rfl 1 dX0_window_0 rfl ?_
  refine g_iconst K (nI 1) ic_1 2 dX0_window_1 rfl ?_
  refine g_bipush K (nI 20) bp_20 4 dX0_window_2 rfl ?_
  refine g_callS K 7 (cts_x0_isIn x1 (nI 1) (nI 20)) (lw_S q478 q479 q151 q480) wds_x0_isIn (by decide) rfl (Nat.le_of_ble_eq_true rfl) dX0_window_4 rfl (fun r1 _ => ?_)
  refine g_if_ne K 10 12 dX0_window_7 rfl (by decide) (fun _ => ?_) (fun _ => ?_)
  · refine g_iconst K (-1 : Int32) ic_m1 11 dX0_window_10 rfl ?_
    exact gx_iret K hK hsh hr hlk dX0_window_11 rfl
  · refine g_iconst K (nI 0) ic_0 13 dX0_window_12 rfl ?_
    refine g_istoren K [(0, .ref z), (1, .int x1), (2, .int (nI 0))] [1, 2, 0] rfl (by decide) rfl 14 dX0_window_13 rfl ?_
    refine g_iconst K (nI 0) ic_0 15 dX0_window_14 rfl ?_
    refine g_istoren K [(0, .ref z), (1, .int x1), (2, .int (nI 0)), (3, .int (nI 0))] [1, 2, 3, 0] rfl (by decide) rfl 16 dX0_window_15 rfl ?_
    refine g_jn (head := 131) (L := fun j2 => [(0, .ref z), (1, .int x1), (2, .int (nI 0))]) (sf := fun j2 => []) (mf := fun j2 => (P, j2)) (fun j2 => ?_) (fun k3 h4 => ?_)
    · try dsimp only
      refine g_iconst K (nI 0) ic_0 132 dX0_window_131 rfl ?_
      refine g_istoren K [(0, .ref z), (1, .int x1), (2, .int (nI 0)), (3, .int (nI 0))] [1, 2, 3, 0] rfl (by decide) rfl 133 dX0_window_132 rfl ?_
      refine g_lp (head := 133) (L := fun j5 => [(0, .ref z), (1, .int x1), (2, .int j5.1), (3, .int j5.2)]) (sf := fun j5 => []) (mf := fun j5 => (P, j2)) (fun again6 h7 j5 => ?_) fuel ((nI 0), (nI 0))
      try dsimp only
      refine g_iloadn K 3 rfl rfl 134 dX0_window_133 rfl ?_
      refine g_iconst K (nI 4) ic_4 135 dX0_window_134 rfl ?_
      refine g_icmp_ge K 138 155 dX0_window_135 rfl (by decide) (fun _ => ?_) (fun _ => ?_)
      · refine g_iloadn K 2 rfl rfl 156 dX0_window_155 rfl ?_
        exact gx_iret K hK hsh hr hlk dX0_window_156 rfl
      · refine g_iloadn K 2 rfl rfl 139 dX0_window_138 rfl ?_
        refine g_aloadn K 0 rfl rfl 140 dX0_window_139 rfl ?_
        refine gx_get K hK hsh 17 (v := .ref (z + 2440)) 143 in_X0 hz rfl (Nat.le_of_ble_eq_true rfl) rfl (by decide) (Or.inl q425) rfl dX0_window_140 rfl ?_
        refine g_iloadn K 1 rfl rfl 144 dX0_window_143 rfl ?_
        refine gx_aal K hK hsh 145 (sh_0_waysTo hsh hz) dX0_window_144 rfl (fun i8 hi9 => ?_)
        refine g_iloadn K 3 rfl rfl 146 dX0_window_145 rfl ?_
        refine gx_ald K hK hsh 147 (sh_22 hsh (sh_0_waysTo hsh hz) hi9) dX0_window_146 rfl (fun v10 => ?_)
        refine g_iadd K 148 dX0_window_147 rfl ?_
        refine g_istoren K [(0, .ref z), (1, .int x1), (2, .int (j5.1 + v10)), (3, .int j5.2)] [1, 2, 0, 3] rfl (by decide) rfl 149 dX0_window_148 rfl ?_
        refine g_iinc K (j5.2 + (nI 1)) 3 [(0, .ref z), (1, .int x1), (2, .int (j5.1 + v10)), (3, .int (j5.2 + (nI 1)))] [1, 2, 3, 0] rfl (by rw [ic_1]) (by decide) rfl 152 dX0_window_149 rfl ?_
        refine g_goto K 133 dX0_window_152 (by decide) ?_
        exact h7 ((j5.1 + v10), (j5.2 + (nI 1)))
    · refine g_lp (head := 16) (L := fun j11 => [(0, .ref z), (1, .int x1), (2, .int (nI 0)), (3, .int j11.1)]) (sf := fun j11 => []) (mf := fun j11 => (P, j11.2)) (fun again12 h13 j11 => ?_) fuel ((nI 0), I)
      try dsimp only
      refine g_iloadn K 3 rfl rfl 17 dX0_window_16 rfl ?_
      refine g_iloadn K 1 rfl rfl 18 dX0_window_17 rfl ?_
      refine g_icmp_gt K 21 131 dX0_window_18 rfl (by decide) (fun _ => ?_) (fun _ => ?_)
      · refine g_sub (ls' := [(0, .ref z), (1, .int x1), (2, .int (nI 0))]) [0, 1, 2] rfl ?_
        exact h4 j11.2
      · refine g_iconst K (nI 0) ic_0 22 dX0_window_21 rfl ?_
        refine g_istore K [(0, .ref z), (1, .int x1), (2, .int (nI 0)), (3, .int j11.1), (4, .int (nI 0))] [1, 2, 3, 4, 0] (by decide) rfl 24 dX0_window_22 rfl ?_
        refine g_lp (head := 24) (L := fun j14 => [(0, .ref z), (1, .int x1), (2, .int (nI 0)), (3, .int j11.1), (4, .int j14.1)]) (sf := fun j14 => []) (mf := fun j14 => (P, j14.2)) (fun again15 h16 j14 => ?_) fuel ((nI 0), j11.2)
        try dsimp only
        refine g_iload K 4 rfl 26 dX0_window_24 rfl ?_
        refine g_iconst K (nI 4) ic_4 27 dX0_window_26 rfl ?_
        refine g_icmp_ge K 30 125 dX0_window_27 rfl (by decide) (fun _ => ?_) (fun _ => ?_)
        · refine g_iinc K (j11.1 + (nI 1)) 3 [(0, .ref z), (1, .int x1), (2, .int (nI 0)), (3, .int (j11.1 + (nI 1)))] [1, 2, 3, 0] rfl (by rw [ic_1]) (by decide) rfl 128 dX0_window_125 rfl ?_
          refine g_goto K 16 dX0_window_128 (by decide) ?_
          exact h13 ((j11.1 + (nI 1)), j14.2)
        · refine g_aloadn K 0 rfl rfl 31 dX0_window_30 rfl ?_
          refine gx_get K hK hsh 17 (v := .ref (z + 2440)) 34 in_X0 hz rfl (Nat.le_of_ble_eq_true rfl) rfl (by decide) (Or.inl q425) rfl dX0_window_31 rfl ?_
          refine g_iloadn K 3 rfl rfl 35 dX0_window_34 rfl ?_
          refine gx_aal K hK hsh 36 (sh_0_waysTo hsh hz) dX0_window_35 rfl (fun i17 hi18 => ?_)
          refine g_iload K 4 rfl 38 dX0_window_36 rfl ?_
          refine g_iloadn K 3 rfl rfl 39 dX0_window_38 rfl ?_
          refine g_jn (head := 52) (L := fun j19 => [(0, .ref z), (1, .int x1), (2, .int (nI 0)), (3, .int j11.1), (4, .int j14.1)]) (sf := fun j19 => [.int j19, .int j14.1, .ref (z + 2441 + i17)]) (mf := fun j19 => (P, j14.2)) (fun j19 => ?_) (fun k20 h21 => ?_)
          · try dsimp only
            refine gx_ast K hK hsh 53 (sh_22 hsh (sh_0_waysTo hsh hz) hi18) dX0_window_52 rfl (fun I22 => ?_)
            refine g_iconst K (nI 0) ic_0 54 dX0_window_53 rfl ?_
            refine g_istore K [(0, .ref z), (1, .int x1), (2, .int (nI 0)), (3, .int j11.1), (4, .int j14.1), (5, .int (nI 0))] [1, 2, 3, 4, 5, 0] (by decide) rfl 56 dX0_window_54 rfl ?_
            refine g_lp (head := 56) (L := fun j23 => [(0, .ref z), (1, .int x1), (2, .int (nI 0)), (3, .int j11.1), (4, .int j14.1), (5, .int j23.1)]) (sf := fun j23 => []) (mf := fun j23 => (P, j23.2)) (fun again24 h25 j23 => ?_) fuel ((nI 0), I22)
            try dsimp only
            refine g_iload K 5 rfl 58 dX0_window_56 rfl ?_
            refine g_iconst K (nI 4) ic_4 59 dX0_window_58 rfl ?_
            refine g_icmp_ge K 62 119 dX0_window_59 rfl (by decide) (fun _ => ?_) (fun _ => ?_)
            · refine g_iinc K (j14.1 + (nI 1)) 4 [(0, .ref z), (1, .int x1), (2, .int (nI 0)), (3, .int j11.1), (4, .int (j14.1 + (nI 1)))] [1, 2, 3, 4, 0] rfl (by rw [ic_1]) (by decide) rfl 122 dX0_window_119 rfl ?_
              refine g_goto K 24 dX0_window_122 (by decide) ?_
              exact h16 ((j14.1 + (nI 1)), j23.2)
            · refine g_iload K 4 rfl 64 dX0_window_62 rfl ?_
              refine g_if_le K 67 119 dX0_window_64 rfl (by decide) (fun _ => ?_) (fun _ => ?_)
              · refine g_iinc K (j14.1 + (nI 1)) 4 [(0, .ref z), (1, .int x1), (2, .int (nI 0)), (3, .int j11.1), (4, .int (j14.1 + (nI 1)))] [1, 2, 3, 4, 0] rfl (by rw [ic_1]) (by decide) rfl 122 dX0_window_119 rfl ?_
                refine g_goto K 24 dX0_window_122 (by decide) ?_
                exact h16 ((j14.1 + (nI 1)), j23.2)
              · refine g_iload K 4 rfl 69 dX0_window_67 rfl ?_
                refine g_iloadn K 3 rfl rfl 70 dX0_window_69 rfl ?_
                refine g_icmp_gt K 73 119 dX0_window_70 rfl (by decide) (fun _ => ?_) (fun _ => ?_)
                · refine g_iinc K (j14.1 + (nI 1)) 4 [(0, .ref z), (1, .int x1), (2, .int (nI 0)), (3, .int j11.1), (4, .int (j14.1 + (nI 1)))] [1, 2, 3, 4, 0] rfl (by rw [ic_1]) (by decide) rfl 122 dX0_window_119 rfl ?_
                  refine g_goto K 24 dX0_window_122 (by decide) ?_
                  exact h16 ((j14.1 + (nI 1)), j23.2)
                · refine g_aloadn K 0 rfl rfl 74 dX0_window_73 rfl ?_
                  refine gx_get K hK hsh 17 (v := .ref (z + 2440)) 77 in_X0 hz rfl (Nat.le_of_ble_eq_true rfl) rfl (by decide) (Or.inl q425) rfl dX0_window_74 rfl ?_
                  refine g_iloadn K 3 rfl rfl 78 dX0_window_77 rfl ?_
                  refine gx_aal K hK hsh 79 (sh_0_waysTo hsh hz) dX0_window_78 rfl (fun i26 hi27 => ?_)
                  refine g_iload K 4 rfl 81 dX0_window_79 rfl ?_
                  refine g_dup2 K rfl rfl 82 dX0_window_81 rfl ?_
                  refine gx_ald K hK hsh 83 (sh_22 hsh (sh_0_waysTo hsh hz) hi27) dX0_window_82 rfl (fun v28 => ?_)
                  refine g_iload K 4 rfl 85 dX0_window_83 rfl ?_
                  refine g_iconst K (nI 3) ic_3 86 dX0_window_85 rfl ?_
                  refine g_jn (head := 111) (L := fun j29 => [(0, .ref z), (1, .int x1), (2, .int (nI 0)), (3, .int j11.1), (4, .int j14.1), (5, .int j23.1)]) (sf := fun j29 => [.int j29, .int v28, .int j14.1, .ref (z + 2441 + i26)]) (mf := fun j29 => (P, j23.2)) (fun j29 => ?_) (fun k30 h31 => ?_)
                  · try dsimp only
                    refine g_iadd K 112 dX0_window_111 rfl ?_
                    refine gx_ast K hK hsh 113 (sh_22 hsh (sh_0_waysTo hsh hz) hi27) dX0_window_112 rfl (fun I32 => ?_)
                    refine g_iinc K (j23.1 + (nI 1)) 5 [(0, .ref z), (1, .int x1), (2, .int (nI 0)), (3, .int j11.1), (4, .int j14.1), (5, .int (j23.1 + (nI 1)))] [1, 2, 3, 4, 5, 0] rfl (by rw [ic_1]) (by decide) rfl 116 dX0_window_113 rfl ?_
                    refine g_goto K 56 dX0_window_116 (by decide) ?_
                    exact h25 ((j23.1 + (nI 1)), I32)
                  · refine g_jn (head := 99) (L := fun j33 => [(0, .ref z), (1, .int x1), (2, .int (nI 0)), (3, .int j11.1), (4, .int j14.1), (5, .int j23.1)]) (sf := fun j33 => [.int v28, .int j14.1, .ref (z + 2441 + i26)]) (mf := fun j33 => (P, j23.2)) (fun j33 => ?_) (fun k34 h35 => ?_)
                    · try dsimp only
                      refine g_aloadn K 0 rfl rfl 100 dX0_window_99 rfl ?_
                      refine gx_get K hK hsh 17 (v := .ref (z + 2440)) 103 in_X0 hz rfl (Nat.le_of_ble_eq_true rfl) rfl (by decide) (Or.inl q425) rfl dX0_window_100 rfl ?_
                      refine g_iloadn K 3 rfl rfl 104 dX0_window_103 rfl ?_
                      refine g_iload K 4 rfl 106 dX0_window_104 rfl ?_
                      refine g_isub K 107 dX0_window_106 rfl ?_
                      refine gx_aal K hK hsh 108 (sh_0_waysTo hsh hz) dX0_window_107 rfl (fun i36 hi37 => ?_)
                      refine g_iload K 5 rfl 110 dX0_window_108 rfl ?_
                      refine gx_ald K hK hsh 111 (sh_22 hsh (sh_0_waysTo hsh hz) hi37) dX0_window_110 rfl (fun v38 => ?_)
                      exact h31 v38
                    · refine g_icmp_ne K 89 99 dX0_window_86 rfl (by decide) (fun _ => ?_) (fun _ => ?_)
                      · refine g_iload K 5 rfl 91 dX0_window_89 rfl ?_
                        refine g_iconst K (nI 3) ic_3 92 dX0_window_91 rfl ?_
                        refine g_icmp_ne K 95 99 dX0_window_92 rfl (by decide) (fun _ => ?_) (fun _ => ?_)
                        · refine g_iconst K (nI 0) ic_0 96 dX0_window_95 rfl ?_
                          refine g_goto K 111 dX0_window_96 (by decide) ?_
                          exact h31 (nI 0)
                        · exact h35 ()
                      · exact h35 ()
          · refine g_if_ne K 42 51 dX0_window_39 rfl (by decide) (fun _ => ?_) (fun _ => ?_)
            · refine g_iload K 4 rfl 44 dX0_window_42 rfl ?_
              refine g_if_ne K 47 51 dX0_window_44 rfl (by decide) (fun _ => ?_) (fun _ => ?_)
              · refine g_iconst K (nI 1) ic_1 48 dX0_window_47 rfl ?_
                refine g_goto K 52 dX0_window_48 (by decide) ?_
                exact h21 (nI 1)
              · refine g_iconst K (nI 0) ic_0 52 dX0_window_51 rfl ?_
                exact h21 (nI 0)
            · refine g_iconst K (nI 0) ic_0 52 dX0_window_51 rfl ?_
              exact h21 (nI 0)
/-- GingerRents.member(II)I -/
def x0_member (I : Mem) (z : Nat) (x1 : Int32) (x2 : Int32) : Option (Int32 × Mem) :=
  if x1 = (-1 : Int32) then
  (x2_ends I (z + 233) 8).bind fun r5 =>
  some (r5.1, r5.2)
  else
  (x0_isIn x1 (nI 0) (nI 4095)).bind fun r1 =>
  if (bI r1) = 0 then
  some ((-1 : Int32), I)
  else
  (x0_isIn x2 (nI 1) (nI 9)).bind fun r2 =>
  if (bI r2) = 0 then
  some ((-1 : Int32), I)
  else
  (x2_tells I (z + 233) 8 x1 x2).bind fun r3 =>
  some (r3.1, r3.2)
theorem wd_x0_member : yX0_member.cls = RX0 ∧ yX0_member.cls ≠ "java/lang/invoke/MethodHandle" ∧ yX0_member.cls ≠ "java/lang/invoke/VarHandle" ∧ (parseMethodDescriptor yX0_member.desc).map (fun d => d.parameters.length) = some 2 := by decide +kernel
set_option maxRecDepth 100000 in
theorem ctx_x0_member {cs : Cs} {z : Nat} {kd : Kd} (P : Ptr) (I : Mem) (x1 : Int32) (x2 : Int32) (hz : kd z = (0, 0, 0)) : CtX cs z kd yX0_member cX0_member 3 (some .int) 1 22 [.ref z, .int x1, .int x2] (P, I) (fun r => (some (.int r.1), (P, r.2))) (x0_member I z x1 x2) := by
  refine CtX.of RX0 (by decide) rfl (Nat.le_of_ble_eq_true rfl) ?_
  intro l D sz p e s m args below meth c hsh K hr hlk hK
  refine g_sub (ls' := [(0, .ref z), (1, .int x1), (2, .int x2)]) [0, 1, 2] rfl ?_
  unfold x0_member
  refine g_iloadn K 1 rfl rfl 1 dX0_member_0 rfl ?_
  refine g_iconst K (-1 : Int32) ic_m1 2 dX0_member_1 rfl ?_
  refine g_icmp_ne K 5 18 dX0_member_2 rfl (by decide) (fun _ => ?_) (fun _ => ?_)
  · refine g_aloadn K 0 rfl rfl 6 dX0_member_5 rfl ?_
    refine gx_get K hK hsh 4 (v := .ref (z + 2)) 9 in_X0 hz rfl (Nat.le_of_ble_eq_true rfl) rfl (by decide) (Or.inl q411) rfl dX0_member_6 rfl ?_
    refine gx_get K hK hsh 9 (v := .ref (z + 233)) 12 in_X1 (sh_0_borough hsh hz) rfl (Nat.le_of_ble_eq_true rfl) rfl (by decide) (Or.inr (nf_q316 hK.2)) rfl dX0_member_9 rfl ?_
    refine gx_call K hK hsh 15 (ctx_x2_ends P I (z + 233) 8 (sh_1_members hsh (sh_0_borough hsh hz))) (lw_V q1310 q1311 q1312 q153 q1313) wd_x2_ends (sh_1_members hsh (sh_0_borough hsh hz)) rfl (Nat.le_of_ble_eq_true rfl) rfl (by decide) rfl (Nat.le_of_ble_eq_true rfl) dX0_member_12 rfl (fun r5 hr6 => ?_)
    refine g_goto K 55 dX0_member_15 (by decide) ?_
    exact gx_iret K hK hsh hr hlk dX0_member_55 rfl
  · refine g_iloadn K 1 rfl rfl 19 dX0_member_18 rfl ?_
    refine g_iconst K (nI 0) ic_0 20 dX0_member_19 rfl ?_
    refine g_sipush K (nI 4095) sp_4095 23 dX0_member_20 rfl ?_
    refine g_callS K 26 (cts_x0_isIn x1 (nI 0) (nI 4095)) (lw_S q478 q479 q151 q480) wds_x0_isIn (by decide) rfl (Nat.le_of_ble_eq_true rfl) dX0_member_23 rfl (fun r1 _ => ?_)
    refine g_if_eq K 29 54 dX0_member_26 rfl (by decide) (fun _ => ?_) (fun _ => ?_)
    · refine g_iconst K (-1 : Int32) ic_m1 55 dX0_member_54 rfl ?_
      exact gx_iret K hK hsh hr hlk dX0_member_55 rfl
    · refine g_iloadn K 2 rfl rfl 30 dX0_member_29 rfl ?_
      refine g_iconst K (nI 1) ic_1 31 dX0_member_30 rfl ?_
      refine g_bipush K (nI 9) bp_9 33 dX0_member_31 rfl ?_
      refine g_callS K 36 (cts_x0_isIn x2 (nI 1) (nI 9)) (lw_S q478 q479 q151 q480) wds_x0_isIn (by decide) rfl (Nat.le_of_ble_eq_true rfl) dX0_member_33 rfl (fun r2 _ => ?_)
      refine g_if_eq K 39 54 dX0_member_36 rfl (by decide) (fun _ => ?_) (fun _ => ?_)
      · refine g_iconst K (-1 : Int32) ic_m1 55 dX0_member_54 rfl ?_
        exact gx_iret K hK hsh hr hlk dX0_member_55 rfl
      · refine g_aloadn K 0 rfl rfl 40 dX0_member_39 rfl ?_
        refine gx_get K hK hsh 4 (v := .ref (z + 2)) 43 in_X0 hz rfl (Nat.le_of_ble_eq_true rfl) rfl (by decide) (Or.inl q411) rfl dX0_member_40 rfl ?_
        refine gx_get K hK hsh 9 (v := .ref (z + 233)) 46 in_X1 (sh_0_borough hsh hz) rfl (Nat.le_of_ble_eq_true rfl) rfl (by decide) (Or.inr (nf_q316 hK.2)) rfl dX0_member_43 rfl ?_
        refine g_iloadn K 1 rfl rfl 47 dX0_member_46 rfl ?_
        refine g_iloadn K 2 rfl rfl 48 dX0_member_47 rfl ?_
        refine gx_call K hK hsh 51 (ctx_x2_tells P I (z + 233) 8 x1 x2 (sh_1_members hsh (sh_0_borough hsh hz))) (lw_V q1314 q1315 q1316 q153 q1317) wd_x2_tells (sh_1_members hsh (sh_0_borough hsh hz)) rfl (Nat.le_of_ble_eq_true rfl) rfl (by decide) rfl (Nat.le_of_ble_eq_true rfl) dX0_member_48 rfl (fun r3 hr4 => ?_)
        refine g_goto K 55 dX0_member_51 (by decide) ?_
        exact gx_iret K hK hsh hr hlk dX0_member_55 rfl
/-- GingerRents.wanting(I)I -/
def x0_wanting (I : Mem) (z : Nat) (x1 : Int32) : Option (Int32) :=
  lp (fun again2 (j1 : Int32 × Int32) =>
  if (I (z + 233) 1) ≤ j1.2 then
  some j1.1
  else
  (x2_first I (z + 233) 8 j1.2).bind fun r4 =>
  nm (j1.1 ||| (((r4 >>> (x1 &&& 31)) &&& (nI 1)) <<< (j1.2 &&& 31))) fun v6 =>
  again2 (v6, (j1.2 + (nI 1)))) fuel ((nI 0), (nI 0))
theorem wd_x0_wanting : yX0_wanting.cls = RX0 ∧ yX0_wanting.cls ≠ "java/lang/invoke/MethodHandle" ∧ yX0_wanting.cls ≠ "java/lang/invoke/VarHandle" ∧ (parseMethodDescriptor yX0_wanting.desc).map (fun d => d.parameters.length) = some 1 := by decide +kernel
set_option maxRecDepth 100000 in
theorem ctx_x0_wanting {cs : Cs} {z : Nat} {kd : Kd} (P : Ptr) (I : Mem) (x1 : Int32) (hz : kd z = (0, 0, 0)) : CtX cs z kd yX0_wanting cX0_wanting 4 (some .int) 1 21 [.ref z, .int x1] (P, I) (fun r => (some (.int r), (P, I))) (x0_wanting I z x1) := by
  refine CtX.of RX0 (by decide) rfl (Nat.le_of_ble_eq_true rfl) ?_
  intro l D sz p e s m args below meth c hsh K hr hlk hK
  refine g_sub (ls' := [(0, .ref z), (1, .int x1)]) [0, 1] rfl ?_
  unfold x0_wanting
  refine g_iconst K (nI 0) ic_0 1 dX0_wanting_0 rfl ?_
  refine g_istoren K [(0, .ref z), (1, .int x1), (2, .int (nI 0))] [1, 2, 0] rfl (by decide) rfl 2 dX0_wanting_1 rfl ?_
  refine g_iconst K (nI 0) ic_0 3 dX0_wanting_2 rfl ?_
  refine g_istoren K [(0, .ref z), (1, .int x1), (2, .int (nI 0)), (3, .int (nI 0))] [1, 2, 3, 0] rfl (by decide) rfl 4 dX0_wanting_3 rfl ?_
  refine g_lp (head := 4) (L := fun j1 => [(0, .ref z), (1, .int x1), (2, .int j1.1), (3, .int j1.2)]) (sf := fun j1 => []) (mf := fun j1 => (P, I)) (fun again2 h3 j1 => ?_) fuel ((nI 0), (nI 0))
  try dsimp only
  refine g_iloadn K 3 rfl rfl 5 dX0_wanting_4 rfl ?_
  refine g_aloadn K 0 rfl rfl 6 dX0_wanting_5 rfl ?_
  refine gx_get K hK hsh 4 (v := .ref (z + 2)) 9 in_X0 hz rfl (Nat.le_of_ble_eq_true rfl) rfl (by decide) (Or.inl q411) rfl dX0_wanting_6 rfl ?_
  refine gx_get K hK hsh 9 (v := .ref (z + 233)) 12 in_X1 (sh_0_borough hsh hz) rfl (Nat.le_of_ble_eq_true rfl) rfl (by decide) (Or.inr (nf_q316 hK.2)) rfl dX0_wanting_9 rfl ?_
  refine gx_get K hK hsh 1 (v := .int (I (z + 233) 1)) 15 in_X2 (sh_1_members hsh (sh_0_borough hsh hz)) rfl (Nat.le_of_ble_eq_true rfl) rfl (by decide) (Or.inr (nf_q213 hK.2)) rfl dX0_wanting_12 rfl ?_
  refine g_icmp_ge K 18 44 dX0_wanting_15 rfl (by decide) (fun _ => ?_) (fun _ => ?_)
  · refine g_iloadn K 2 rfl rfl 45 dX0_wanting_44 rfl ?_
    exact gx_iret K hK hsh hr hlk dX0_wanting_45 rfl
  · refine g_iloadn K 2 rfl rfl 19 dX0_wanting_18 rfl ?_
    refine g_aloadn K 0 rfl rfl 20 dX0_wanting_19 rfl ?_
    refine gx_get K hK hsh 4 (v := .ref (z + 2)) 23 in_X0 hz rfl (Nat.le_of_ble_eq_true rfl) rfl (by decide) (Or.inl q411) rfl dX0_wanting_20 rfl ?_
    refine gx_get K hK hsh 9 (v := .ref (z + 233)) 26 in_X1 (sh_0_borough hsh hz) rfl (Nat.le_of_ble_eq_true rfl) rfl (by decide) (Or.inr (nf_q316 hK.2)) rfl dX0_wanting_23 rfl ?_
    refine g_iloadn K 3 rfl rfl 27 dX0_wanting_26 rfl ?_
    refine gx_call K hK hsh 30 (ctx_x2_first P I (z + 233) 8 j1.2 (sh_1_members hsh (sh_0_borough hsh hz))) (lw_V q1330 q1331 q1332 q153 q1333) wd_x2_first (sh_1_members hsh (sh_0_borough hsh hz)) rfl (Nat.le_of_ble_eq_true rfl) rfl (by decide) rfl (Nat.le_of_ble_eq_true rfl) dX0_wanting_27 rfl (fun r4 hr5 => ?_)
    refine g_iloadn K 1 rfl rfl 31 dX0_wanting_30 rfl ?_
    refine g_ishr K 32 dX0_wanting_31 rfl ?_
    refine g_iconst K (nI 1) ic_1 33 dX0_wanting_32 rfl ?_
    refine g_iand K 34 dX0_wanting_33 rfl ?_
    refine g_iloadn K 3 rfl rfl 35 dX0_wanting_34 rfl ?_
    refine g_ishl K 36 dX0_wanting_35 rfl ?_
    refine g_ior K 37 dX0_wanting_36 rfl ?_
    refine g_nm (fun v6 _ => ?_)
    refine g_istoren K [(0, .ref z), (1, .int x1), (2, .int v6), (3, .int j1.2)] [1, 2, 0, 3] rfl (by decide) rfl 38 dX0_wanting_37 rfl ?_
    refine g_iinc K (j1.2 + (nI 1)) 3 [(0, .ref z), (1, .int x1), (2, .int v6), (3, .int (j1.2 + (nI 1)))] [1, 2, 3, 0] rfl (by rw [ic_1]) (by decide) rfl 41 dX0_wanting_38 rfl ?_
    refine g_goto K 4 dX0_wanting_41 (by decide) ?_
    exact h3 (v6, (j1.2 + (nI 1)))
/-- GingerRents.weights(I)I -/
def x0_weights (I : Mem) (z : Nat) (x1 : Int32) : Option (Int32) :=
  lp (fun again2 (j1 : Int32 × Int32) =>
  if (I (z + 233) 1) ≤ j1.2 then
  some j1.1
  else
  jn (fun (j4 : Int32) =>
  again2 ((j1.1 + j4), (j1.2 + (nI 1)))) (fun k5 =>
  if ((x1 >>> (j1.2 &&& 31)) &&& (nI 1)) = (nI 1) then
  (x2_second I (z + 233) 8 j1.2).bind fun r7 =>
  k5 r7
  else
  k5 (nI 0))) fuel ((nI 0), (nI 0))
theorem wd_x0_weights : yX0_weights.cls = RX0 ∧ yX0_weights.cls ≠ "java/lang/invoke/MethodHandle" ∧ yX0_weights.cls ≠ "java/lang/invoke/VarHandle" ∧ (parseMethodDescriptor yX0_weights.desc).map (fun d => d.parameters.length) = some 1 := by decide +kernel
set_option maxRecDepth 100000 in
theorem ctx_x0_weights {cs : Cs} {z : Nat} {kd : Kd} (P : Ptr) (I : Mem) (x1 : Int32) (hz : kd z = (0, 0, 0)) : CtX cs z kd yX0_weights cX0_weights 4 (some .int) 1 21 [.ref z, .int x1] (P, I) (fun r => (some (.int r), (P, I))) (x0_weights I z x1) := by
  refine CtX.of RX0 (by decide) rfl (Nat.le_of_ble_eq_true rfl) ?_
  intro l D sz p e s m args below meth c hsh K hr hlk hK
  refine g_sub (ls' := [(0, .ref z), (1, .int x1)]) [0, 1] rfl ?_
  unfold x0_weights
  refine g_iconst K (nI 0) ic_0 1 dX0_weights_0 rfl ?_
  refine g_istoren K [(0, .ref z), (1, .int x1), (2, .int (nI 0))] [1, 2, 0] rfl (by decide) rfl 2 dX0_weights_1 rfl ?_
  refine g_iconst K (nI 0) ic_0 3 dX0_weights_2 rfl ?_
  refine g_istoren K [(0, .ref z), (1, .int x1), (2, .int (nI 0)), (3, .int (nI 0))] [1, 2, 3, 0] rfl (by decide) rfl 4 dX0_weights_3 rfl ?_
  refine g_lp (head := 4) (L := fun j1 => [(0, .ref z), (1, .int x1), (2, .int j1.1), (3, .int j1.2)]) (sf := fun j1 => []) (mf := fun j1 => (P, I)) (fun again2 h3 j1 => ?_) fuel ((nI 0), (nI 0))
  try dsimp only
  refine g_iloadn K 3 rfl rfl 5 dX0_weights_4 rfl ?_
  refine g_aloadn K 0 rfl rfl 6 dX0_weights_5 rfl ?_
  refine gx_get K hK hsh 4 (v := .ref (z + 2)) 9 in_X0 hz rfl (Nat.le_of_ble_eq_true rfl) rfl (by decide) (Or.inl q411) rfl dX0_weights_6 rfl ?_
  refine gx_get K hK hsh 9 (v := .ref (z + 233)) 12 in_X1 (sh_0_borough hsh hz) rfl (Nat.le_of_ble_eq_true rfl) rfl (by decide) (Or.inr (nf_q316 hK.2)) rfl dX0_weights_9 rfl ?_
  refine gx_get K hK hsh 1 (v := .int (I (z + 233) 1)) 15 in_X2 (sh_1_members hsh (sh_0_borough hsh hz)) rfl (Nat.le_of_ble_eq_true rfl) rfl (by decide) (Or.inr (nf_q213 hK.2)) rfl dX0_weights_12 rfl ?_
  refine g_icmp_ge K 18 51 dX0_weights_15 rfl (by decide) (fun _ => ?_) (fun _ => ?_)
  · refine g_iloadn K 2 rfl rfl 52 dX0_weights_51 rfl ?_
    exact gx_iret K hK hsh hr hlk dX0_weights_52 rfl
  · refine g_iloadn K 2 rfl rfl 19 dX0_weights_18 rfl ?_
    refine g_iloadn K 1 rfl rfl 20 dX0_weights_19 rfl ?_
    refine g_iloadn K 3 rfl rfl 21 dX0_weights_20 rfl ?_
    refine g_ishr K 22 dX0_weights_21 rfl ?_
    refine g_iconst K (nI 1) ic_1 23 dX0_weights_22 rfl ?_
    refine g_iand K 24 dX0_weights_23 rfl ?_
    refine g_iconst K (nI 1) ic_1 25 dX0_weights_24 rfl ?_
    refine g_jn (head := 43) (L := fun j4 => [(0, .ref z), (1, .int x1), (3, .int j1.2)]) (sf := fun j4 => [.int j4, .int j1.1]) (mf := fun j4 => (P, I)) (fun j4 => ?_) (fun k5 h6 => ?_)
    · try dsimp only
      refine g_iadd K 44 dX0_weights_43 rfl ?_
      refine g_istoren K [(0, .ref z), (1, .int x1), (2, .int (j1.1 + j4)), (3, .int j1.2)] [1, 2, 0, 3] rfl (by decide) rfl 45 dX0_weights_44 rfl ?_
      refine g_iinc K (j1.2 + (nI 1)) 3 [(0, .ref z), (1, .int x1), (2, .int (j1.1 + j4)), (3, .int (j1.2 + (nI 1)))] [1, 2, 3, 0] rfl (by rw [ic_1]) (by decide) rfl 48 dX0_weights_45 rfl ?_
      refine g_goto K 4 dX0_weights_48 (by decide) ?_
      exact h3 ((j1.1 + j4), (j1.2 + (nI 1)))
    · refine g_icmp_ne K 28 42 dX0_weights_25 rfl (by decide) (fun _ => ?_) (fun _ => ?_)
      · refine g_aloadn K 0 rfl rfl 29 dX0_weights_28 rfl ?_
        refine gx_get K hK hsh 4 (v := .ref (z + 2)) 32 in_X0 hz rfl (Nat.le_of_ble_eq_true rfl) rfl (by decide) (Or.inl q411) rfl dX0_weights_29 rfl ?_
        refine gx_get K hK hsh 9 (v := .ref (z + 233)) 35 in_X1 (sh_0_borough hsh hz) rfl (Nat.le_of_ble_eq_true rfl) rfl (by decide) (Or.inr (nf_q316 hK.2)) rfl dX0_weights_32 rfl ?_
        refine g_iloadn K 3 rfl rfl 36 dX0_weights_35 rfl ?_
        refine gx_call K hK hsh 39 (ctx_x2_second P I (z + 233) 8 j1.2 (sh_1_members hsh (sh_0_borough hsh hz))) (lw_V q1380 q1381 q1382 q153 q1383) wd_x2_second (sh_1_members hsh (sh_0_borough hsh hz)) rfl (Nat.le_of_ble_eq_true rfl) rfl (by decide) rfl (Nat.le_of_ble_eq_true rfl) dX0_weights_36 rfl (fun r7 hr8 => ?_)
        refine g_goto K 43 dX0_weights_39 (by decide) ?_
        refine g_sub (ls' := [(0, .ref z), (1, .int x1), (3, .int j1.2)]) [0, 1, 3] rfl ?_
        exact h6 r7
      · refine g_iconst K (nI 0) ic_0 43 dX0_weights_42 rfl ?_
        refine g_sub (ls' := [(0, .ref z), (1, .int x1), (3, .int j1.2)]) [0, 1, 3] rfl ?_
        exact h6 (nI 0)
/-- GingerRents.council(I)I -/
def x0_council (I : Mem) (z : Nat) (x1 : Int32) : Option (Int32) :=
  (x0_isIn x1 (nI 0) (nI 1)).bind fun r1 =>
  if (bI r1) = 0 then
  some (-1 : Int32)
  else
  nm (((nI 1) <<< ((I (z + 233) 1) &&& 31)) - (nI 1)) fun v2 =>
  jn (fun (j3 : Int32) =>
  if x1 = 0 then
  some j3
  else
  lp (fun again7 (j6 : Int32 × Int32) =>
  if v2 < j6.2 then
  some j6.1
  else
  (x0_weights I z j6.2).bind fun r9 =>
  (x0_weights I z v2).bind fun r11 =>
  if ((nI 2) * r9) ≤ r11 then
  again7 (j6.1, (j6.2 + (nI 1)))
  else
  (j4_bitCount j6.2).bind fun r13 =>
  again7 ((imin j6.1 r13), (j6.2 + (nI 1)))) fuel ((I (z + 233) 1), (nI 0))) (fun k4 =>
  lp (fun again15 (j14 : Int32 × Int32) =>
  if (nI 12) ≤ j14.2 then
  k4 j14.1
  else
  (x0_wanting I z j14.2).bind fun r17 =>
  (x0_weights I z r17).bind fun r19 =>
  (x0_weights I z v2).bind fun r21 =>
  jn (fun (j23 : Int32) =>
  again15 ((j14.1 ||| j23), (j14.2 + (nI 1)))) (fun k24 =>
  if ((nI 2) * r19) ≤ r21 then
  k24 (nI 0)
  else
  k24 ((nI 1) <<< (j14.2 &&& 31)))) fuel ((nI 0), (nI 0)))
theorem wd_x0_council : yX0_council.cls = RX0 ∧ yX0_council.cls ≠ "java/lang/invoke/MethodHandle" ∧ yX0_council.cls ≠ "java/lang/invoke/VarHandle" ∧ (parseMethodDescriptor yX0_council.desc).map (fun d => d.parameters.length) = some 1 := by decide +kernel
set_option maxRecDepth 100000 in
theorem ctx_x0_council {cs : Cs} {z : Nat} {kd : Kd} (P : Ptr) (I : Mem) (x1 : Int32) (hz : kd z = (0, 0, 0)) : CtX cs z kd yX0_council cX0_council 6 (some .int) 2 44 [.ref z, .int x1] (P, I) (fun r => (some (.int r), (P, I))) (x0_council I z x1) := by
  refine CtX.of RX0 (by decide) rfl (Nat.le_of_ble_eq_true rfl) ?_
  intro l D sz p e s m args below meth c hsh K hr hlk hK
  refine g_sub (ls' := [(0, .ref z), (1, .int x1)]) [0, 1] rfl ?_
  unfold x0_council
  refine g_iloadn K 1 rfl rfl 1 dX0_council_0 rfl ?_
  refine g_iconst K (nI 0) ic_0 2 dX0_council_1 rfl ?_
  refine g_iconst K (nI 1) ic_1 3 dX0_council_2 rfl ?_
  refine g_callS K 6 (cts_x0_isIn x1 (nI 0) (nI 1)) (lw_S q478 q479 q151 q480) wds_x0_isIn (by decide) rfl (Nat.le_of_ble_eq_true rfl) dX0_council_3 rfl (fun r1 _ => ?_)
  refine g_if_ne K 9 11 dX0_council_6 rfl (by decide) (fun _ => ?_) (fun _ => ?_)
  · refine g_iconst K (-1 : Int32) ic_m1 10 dX0_council_9 rfl ?_
    exact gx_iret K hK hsh hr hlk dX0_council_10 rfl
  · refine g_iconst K (nI 1) ic_1 12 dX0_council_11 rfl ?_
    refine g_aloadn K 0 rfl rfl 13 dX0_council_12 rfl ?_
    refine gx_get K hK hsh 4 (v := .ref (z + 2)) 16 in_X0 hz rfl (Nat.le_of_ble_eq_true rfl) rfl (by decide) (Or.inl q411) rfl dX0_council_13 rfl ?_
    refine gx_get K hK hsh 9 (v := .ref (z + 233)) 19 in_X1 (sh_0_borough hsh hz) rfl (Nat.le_of_ble_eq_true rfl) rfl (by decide) (Or.inr (nf_q316 hK.2)) rfl dX0_council_16 rfl ?_
    refine gx_get K hK hsh 1 (v := .int (I (z + 233) 1)) 22 in_X2 (sh_1_members hsh (sh_0_borough hsh hz)) rfl (Nat.le_of_ble_eq_true rfl) rfl (by decide) (Or.inr (nf_q213 hK.2)) rfl dX0_council_19 rfl ?_
    refine g_ishl K 23 dX0_council_22 rfl ?_
    refine g_iconst K (nI 1) ic_1 24 dX0_council_23 rfl ?_
    refine g_isub K 25 dX0_council_24 rfl ?_
    refine g_nm (fun v2 _ => ?_)
    refine g_istoren K [(0, .ref z), (1, .int x1), (2, .int v2)] [1, 2, 0] rfl (by decide) rfl 26 dX0_council_25 rfl ?_
    refine g_iconst K (nI 0) ic_0 27 dX0_council_26 rfl ?_
    refine g_istoren K [(0, .ref z), (1, .int x1), (2, .int v2), (3, .int (nI 0))] [1, 2, 3, 0] rfl (by decide) rfl 28 dX0_council_27 rfl ?_
    refine g_iconst K (nI 0) ic_0 29 dX0_council_28 rfl ?_
    refine g_istore K [(0, .ref z), (1, .int x1), (2, .int v2), (3, .int (nI 0)), (4, .int (nI 0))] [1, 2, 3, 4, 0] (by decide) rfl 31 dX0_council_29 rfl ?_
    refine g_jn (head := 75) (L := fun j3 => [(0, .ref z), (1, .int x1), (2, .int v2), (3, .int j3)]) (sf := fun j3 => []) (mf := fun j3 => (P, I)) (fun j3 => ?_) (fun k4 h5 => ?_)
    · try dsimp only
      refine g_iloadn K 1 rfl rfl 76 dX0_council_75 rfl ?_
      refine g_if_ne K 79 81 dX0_council_76 rfl (by decide) (fun _ => ?_) (fun _ => ?_)
      · refine g_iloadn K 3 rfl rfl 80 dX0_council_79 rfl ?_
        exact gx_iret K hK hsh hr hlk dX0_council_80 rfl
      · refine g_aloadn K 0 rfl rfl 82 dX0_council_81 rfl ?_
        refine gx_get K hK hsh 4 (v := .ref (z + 2)) 85 in_X0 hz rfl (Nat.le_of_ble_eq_true rfl) rfl (by decide) (Or.inl q411) rfl dX0_council_82 rfl ?_
        refine gx_get K hK hsh 9 (v := .ref (z + 233)) 88 in_X1 (sh_0_borough hsh hz) rfl (Nat.le_of_ble_eq_true rfl) rfl (by decide) (Or.inr (nf_q316 hK.2)) rfl dX0_council_85 rfl ?_
        refine gx_get K hK hsh 1 (v := .int (I (z + 233) 1)) 91 in_X2 (sh_1_members hsh (sh_0_borough hsh hz)) rfl (Nat.le_of_ble_eq_true rfl) rfl (by decide) (Or.inr (nf_q213 hK.2)) rfl dX0_council_88 rfl ?_
        refine g_istore K [(0, .ref z), (2, .int v2), (4, .int (I (z + 233) 1))] [1, 3, 0] (by decide) rfl 93 dX0_council_91 rfl ?_
        refine g_iconst K (nI 0) ic_0 94 dX0_council_93 rfl ?_
        refine g_istore K [(0, .ref z), (2, .int v2), (4, .int (I (z + 233) 1)), (5, .int (nI 0))] [1, 2, 3, 0] (by decide) rfl 96 dX0_council_94 rfl ?_
        refine g_lp (head := 96) (L := fun j6 => [(0, .ref z), (2, .int v2), (4, .int j6.1), (5, .int j6.2)]) (sf := fun j6 => []) (mf := fun j6 => (P, I)) (fun again7 h8 j6 => ?_) fuel ((I (z + 233) 1), (nI 0))
        try dsimp only
        refine g_iload K 3 rfl 98 dX0_council_96 rfl ?_
        refine g_iloadn K 1 rfl rfl 99 dX0_council_98 rfl ?_
        refine g_icmp_gt K 102 136 dX0_council_99 rfl (by decide) (fun _ => ?_) (fun _ => ?_)
        · refine g_iload K 2 rfl 138 dX0_council_136 rfl ?_
          exact gx_iret K hK hsh hr hlk dX0_council_138 rfl
        · refine g_iconst K (nI 2) ic_2 103 dX0_council_102 rfl ?_
          refine g_aloadn K 0 rfl rfl 104 dX0_council_103 rfl ?_
          refine g_iload K 3 rfl 106 dX0_council_104 rfl ?_
          refine gx_call K hK hsh 109 (ctx_x0_weights P I j6.2 hz) (lw_V q1440 q1442 qs52 q151 q1443) wd_x0_weights hz rfl (Nat.le_of_ble_eq_true rfl) rfl (by decide) rfl (Nat.le_of_ble_eq_true rfl) dX0_council_106 rfl (fun r9 hr10 => ?_)
          refine g_imul K 110 dX0_council_109 rfl ?_
          refine g_aloadn K 0 rfl rfl 111 dX0_council_110 rfl ?_
          refine g_iloadn K 1 rfl rfl 112 dX0_council_111 rfl ?_
          refine gx_call K hK hsh 115 (ctx_x0_weights P I v2 hz) (lw_V q1440 q1442 qs52 q151 q1443) wd_x0_weights hz rfl (Nat.le_of_ble_eq_true rfl) rfl (by decide) rfl (Nat.le_of_ble_eq_true rfl) dX0_council_112 rfl (fun r11 hr12 => ?_)
          refine g_icmp_le K 118 130 dX0_council_115 rfl (by decide) (fun _ => ?_) (fun _ => ?_)
          · refine g_iinc K (j6.2 + (nI 1)) 3 [(0, .ref z), (2, .int v2), (4, .int j6.1), (5, .int (j6.2 + (nI 1)))] [1, 2, 3, 0] rfl (by rw [ic_1]) (by decide) rfl 133 dX0_council_130 rfl ?_
            refine g_goto K 96 dX0_council_133 (by decide) ?_
            exact h8 (j6.1, (j6.2 + (nI 1)))
          · refine g_iload K 2 rfl 120 dX0_council_118 rfl ?_
            refine g_iload K 3 rfl 122 dX0_council_120 rfl ?_
            refine g_callS K 125 (cts_j4_bitCount j6.2) (lw_S q1275 q1249 q160 q1250) wds_j4_bitCount (by decide) rfl (Nat.le_of_ble_eq_true rfl) dX0_council_122 rfl (fun r13 _ => ?_)
            refine g_mmin K 128 q1219 q878 q159 q879 (by decide) (Nat.le_of_ble_eq_true rfl) dX0_council_125 rfl ?_
            refine g_istore K [(0, .ref z), (2, .int v2), (4, .int (imin j6.1 r13)), (5, .int j6.2)] [1, 2, 0, 3] (by decide) rfl 130 dX0_council_128 rfl ?_
            refine g_iinc K (j6.2 + (nI 1)) 3 [(0, .ref z), (2, .int v2), (4, .int (imin j6.1 r13)), (5, .int (j6.2 + (nI 1)))] [1, 2, 3, 0] rfl (by rw [ic_1]) (by decide) rfl 133 dX0_council_130 rfl ?_
            refine g_goto K 96 dX0_council_133 (by decide) ?_
            exact h8 ((imin j6.1 r13), (j6.2 + (nI 1)))
    · refine g_lp (head := 31) (L := fun j14 => [(0, .ref z), (1, .int x1), (2, .int v2), (3, .int j14.1), (4, .int j14.2)]) (sf := fun j14 => []) (mf := fun j14 => (P, I)) (fun again15 h16 j14 => ?_) fuel ((nI 0), (nI 0))
      try dsimp only
      refine g_iload K 4 rfl 33 dX0_council_31 rfl ?_
      refine g_bipush K (nI 12) bp_12 35 dX0_council_33 rfl ?_
      refine g_icmp_ge K 38 75 dX0_council_35 rfl (by decide) (fun _ => ?_) (fun _ => ?_)
      · refine g_sub (ls' := [(0, .ref z), (1, .int x1), (2, .int v2), (3, .int j14.1)]) [0, 1, 2, 3] rfl ?_
        exact h5 j14.1
      · refine g_iloadn K 3 rfl rfl 39 dX0_council_38 rfl ?_
        refine g_iconst K (nI 2) ic_2 40 dX0_council_39 rfl ?_
        refine g_aloadn K 0 rfl rfl 41 dX0_council_40 rfl ?_
        refine g_aloadn K 0 rfl rfl 42 dX0_council_41 rfl ?_
        refine g_iload K 4 rfl 44 dX0_council_42 rfl ?_
        refine gx_call K hK hsh 47 (ctx_x0_wanting P I j14.2 hz) (lw_V q1436 q1438 qs51 q151 q1439) wd_x0_wanting hz rfl (Nat.le_of_ble_eq_true rfl) rfl (by decide) rfl (Nat.le_of_ble_eq_true rfl) dX0_council_44 rfl (fun r17 hr18 => ?_)
        refine gx_call K hK hsh 50 (ctx_x0_weights P I r17 hz) (lw_V q1440 q1442 qs52 q151 q1443) wd_x0_weights hz rfl (Nat.le_of_ble_eq_true rfl) rfl (by decide) rfl (Nat.le_of_ble_eq_true rfl) dX0_council_47 rfl (fun r19 hr20 => ?_)
        refine g_imul K 51 dX0_council_50 rfl ?_
        refine g_aloadn K 0 rfl rfl 52 dX0_council_51 rfl ?_
        refine g_iloadn K 2 rfl rfl 53 dX0_council_52 rfl ?_
        refine gx_call K hK hsh 56 (ctx_x0_weights P I v2 hz) (lw_V q1440 q1442 qs52 q151 q1443) wd_x0_weights hz rfl (Nat.le_of_ble_eq_true rfl) rfl (by decide) rfl (Nat.le_of_ble_eq_true rfl) dX0_council_53 rfl (fun r21 hr22 => ?_)
        refine g_jn (head := 67) (L := fun j23 => [(0, .ref z), (1, .int x1), (2, .int v2), (4, .int j14.2)]) (sf := fun j23 => [.int j23, .int j14.1]) (mf := fun j23 => (P, I)) (fun j23 => ?_) (fun k24 h25 => ?_)
        · try dsimp only
          refine g_ior K 68 dX0_council_67 rfl ?_
          refine g_istoren K [(0, .ref z), (1, .int x1), (2, .int v2), (3, .int (j14.1 ||| j23)), (4, .int j14.2)] [1, 2, 3, 0, 4] rfl (by decide) rfl 69 dX0_council_68 rfl ?_
          refine g_iinc K (j14.2 + (nI 1)) 4 [(0, .ref z), (1, .int x1), (2, .int v2), (3, .int (j14.1 ||| j23)), (4, .int (j14.2 + (nI 1)))] [1, 2, 3, 4, 0] rfl (by rw [ic_1]) (by decide) rfl 72 dX0_council_69 rfl ?_
          refine g_goto K 31 dX0_council_72 (by decide) ?_
          exact h16 ((j14.1 ||| j23), (j14.2 + (nI 1)))
        · refine g_icmp_le K 59 66 dX0_council_56 rfl (by decide) (fun _ => ?_) (fun _ => ?_)
          · refine g_iconst K (nI 0) ic_0 67 dX0_council_66 rfl ?_
            refine g_sub (ls' := [(0, .ref z), (1, .int x1), (2, .int v2), (4, .int j14.2)]) [0, 1, 2, 4] rfl ?_
            exact h25 (nI 0)
          · refine g_iconst K (nI 1) ic_1 60 dX0_council_59 rfl ?_
            refine g_iload K 4 rfl 62 dX0_council_60 rfl ?_
            refine g_ishl K 63 dX0_council_62 rfl ?_
            refine g_goto K 67 dX0_council_63 (by decide) ?_
            refine g_sub (ls' := [(0, .ref z), (1, .int x1), (2, .int v2), (4, .int j14.2)]) [0, 1, 2, 4] rfl ?_
            exact h25 ((nI 1) <<< (j14.2 &&& 31))
/-- GingerRents.far(II)I -/
def x0_far (x1 : Int32) (x2 : Int32) : Option Int32 :=
  jn (fun (j1 : Int32) =>
  (iremO j1 (nI 7)).bind fun v4 =>
  some v4) (fun k2 =>
  lp (fun again6 (j5 : Int32 × Int32) =>
  if x2 ≤ j5.2 then
  k2 j5.1
  else
  (idivO j5.1 (nI 7)).bind fun v8 =>
  again6 (v8, (j5.2 + (nI 1)))) fuel (x1, (nI 0)))
theorem wds_x0_far : yX0_far.cls ≠ "java/lang/invoke/MethodHandle" ∧ yX0_far.cls ≠ "java/lang/invoke/VarHandle" ∧ (parseMethodDescriptor yX0_far.desc).map (fun d => d.parameters.length) = some 2 := by decide +kernel
set_option maxRecDepth 100000 in
theorem cts_x0_far (x1 : Int32) (x2 : Int32) : CtS yX0_far cX0_far 4 (some .int) 0 0 [.int x1, .int x2] (fun r => some (.int r)) (x0_far x1 x2) := by
  refine CtS.of RX0 (by decide) rfl (Nat.le_of_ble_eq_true rfl) ?_
  intro l p e s m args below meth c K hr hlk
  refine g_sub (ls' := [(0, .int x1), (1, .int x2)]) [0, 1] rfl ?_
  unfold x0_far
  refine g_iloadn K 0 rfl rfl 1 dX0_far_0 rfl ?_
  refine g_istoren K [(1, .int x2), (2, .int x1)] [2, 0] rfl (by decide) rfl 2 dX0_far_1 rfl ?_
  refine g_iconst K (nI 0) ic_0 3 dX0_far_2 rfl ?_
  refine g_istoren K [(1, .int x2), (2, .int x1), (3, .int (nI 0))] [1, 2, 0] rfl (by decide) rfl 4 dX0_far_3 rfl ?_
  refine g_jn (head := 20) (L := fun j1 => [(2, .int j1)]) (sf := fun j1 => []) (mf := fun j1 => ()) (fun j1 => ?_) (fun k2 h3 => ?_)
  · try dsimp only
    refine g_iloadn K 0 rfl rfl 21 dX0_far_20 rfl ?_
    refine g_bipush K (nI 7) bp_7 23 dX0_far_21 rfl ?_
    refine g_irem K 24 dX0_far_23 rfl (fun v4 _ _ => ?_)
    exact gs_iret K hr hlk dX0_far_24 rfl
  · refine g_lp (head := 4) (L := fun j5 => [(1, .int x2), (2, .int j5.1), (3, .int j5.2)]) (sf := fun j5 => []) (mf := fun j5 => ()) (fun again6 h7 j5 => ?_) fuel (x1, (nI 0))
    try dsimp only
    refine g_iloadn K 2 rfl rfl 5 dX0_far_4 rfl ?_
    refine g_iloadn K 0 rfl rfl 6 dX0_far_5 rfl ?_
    refine g_icmp_ge K 9 20 dX0_far_6 rfl (by decide) (fun _ => ?_) (fun _ => ?_)
    · refine g_sub (ls' := [(2, .int j5.1)]) [1] rfl ?_
      exact h3 j5.1
    · refine g_iloadn K 1 rfl rfl 10 dX0_far_9 rfl ?_
      refine g_bipush K (nI 7) bp_7 12 dX0_far_10 rfl ?_
      refine g_idiv K 13 dX0_far_12 rfl (fun v8 _ _ => ?_)
      refine g_istoren K [(1, .int x2), (2, .int v8), (3, .int j5.2)] [1, 0, 2] rfl (by decide) rfl 14 dX0_far_13 rfl ?_
      refine g_iinc K (j5.2 + (nI 1)) 2 [(1, .int x2), (2, .int v8), (3, .int (j5.2 + (nI 1)))] [1, 2, 0] rfl (by rw [ic_1]) (by decide) rfl 17 dX0_far_14 rfl ?_
      refine g_goto K 4 dX0_far_17 (by decide) ?_
      exact h7 (v8, (j5.2 + (nI 1)))
/-- GingerRents.bitten(III)I -/
def x0_bitten (x1 : Int32) (x2 : Int32) (x3 : Int32) : Option Int32 :=
  lp (fun again2 (j1 : Int32 × Int32 × Int32 × Int32) =>
  if (nI 5) ≤ j1.2.2.2 then
  some j1.1
  else
  (iremO j1.2.1 (nI 7)).bind fun v4 =>
  jn (fun (j5 : Int32) =>
  nm (j1.1 + (j1.2.2.1 * j5)) fun v8 =>
  nm (j1.2.2.1 * (nI 7)) fun v9 =>
  (idivO j1.2.1 (nI 7)).bind fun v10 =>
  again2 (v8, v10, v9, (j1.2.2.2 + (nI 1)))) (fun k6 =>
  if x2 ≤ j1.2.2.2 then
  k6 (imin v4 x3)
  else
  k6 v4)) fuel ((nI 0), x1, (nI 1), (nI 0))
theorem wds_x0_bitten : yX0_bitten.cls ≠ "java/lang/invoke/MethodHandle" ∧ yX0_bitten.cls ≠ "java/lang/invoke/VarHandle" ∧ (parseMethodDescriptor yX0_bitten.desc).map (fun d => d.parameters.length) = some 3 := by decide +kernel
set_option maxRecDepth 100000 in
theorem cts_x0_bitten (x1 : Int32) (x2 : Int32) (x3 : Int32) : CtS yX0_bitten cX0_bitten 8 (some .int) 1 21 [.int x1, .int x2, .int x3] (fun r => some (.int r)) (x0_bitten x1 x2 x3) := by
  refine CtS.of RX0 (by decide) rfl (Nat.le_of_ble_eq_true rfl) ?_
  intro l p e s m args below meth c K hr hlk
  refine g_sub (ls' := [(0, .int x1), (1, .int x2), (2, .int x3)]) [0, 1, 2] rfl ?_
  unfold x0_bitten
  refine g_iconst K (nI 0) ic_0 1 dX0_bitten_0 rfl ?_
  refine g_istoren K [(0, .int x1), (1, .int x2), (2, .int x3), (3, .int (nI 0))] [1, 2, 3, 0] rfl (by decide) rfl 2 dX0_bitten_1 rfl ?_
  refine g_iloadn K 0 rfl rfl 3 dX0_bitten_2 rfl ?_
  refine g_istore K [(1, .int x2), (2, .int x3), (3, .int (nI 0)), (4, .int x1)] [2, 3, 4, 0] (by decide) rfl 5 dX0_bitten_3 rfl ?_
  refine g_iconst K (nI 1) ic_1 6 dX0_bitten_5 rfl ?_
  refine g_istore K [(1, .int x2), (2, .int x3), (3, .int (nI 0)), (4, .int x1), (5, .int (nI 1))] [1, 2, 3, 4, 0] (by decide) rfl 8 dX0_bitten_6 rfl ?_
  refine g_iconst K (nI 0) ic_0 9 dX0_bitten_8 rfl ?_
  refine g_istore K [(1, .int x2), (2, .int x3), (3, .int (nI 0)), (4, .int x1), (5, .int (nI 1)), (6, .int (nI 0))] [1, 2, 3, 4, 5, 0] (by decide) rfl 11 dX0_bitten_9 rfl ?_
  refine g_lp (head := 11) (L := fun j1 => [(1, .int x2), (2, .int x3), (3, .int j1.1), (4, .int j1.2.1), (5, .int j1.2.2.1), (6, .int j1.2.2.2)]) (sf := fun j1 => []) (mf := fun j1 => ()) (fun again2 h3 j1 => ?_) fuel ((nI 0), x1, (nI 1), (nI 0))
  try dsimp only
  refine g_iload K 5 rfl 13 dX0_bitten_11 rfl ?_
  refine g_iconst K (nI 5) ic_5 14 dX0_bitten_13 rfl ?_
  refine g_icmp_ge K 17 67 dX0_bitten_14 rfl (by decide) (fun _ => ?_) (fun _ => ?_)
  · refine g_iloadn K 2 rfl rfl 68 dX0_bitten_67 rfl ?_
    exact gs_iret K hr hlk dX0_bitten_68 rfl
  · refine g_iload K 3 rfl 19 dX0_bitten_17 rfl ?_
    refine g_bipush K (nI 7) bp_7 21 dX0_bitten_19 rfl ?_
    refine g_irem K 22 dX0_bitten_21 rfl (fun v4 _ _ => ?_)
    refine g_istore K [(1, .int x2), (2, .int x3), (3, .int j1.1), (4, .int j1.2.1), (5, .int j1.2.2.1), (6, .int j1.2.2.2), (7, .int v4)] [1, 2, 3, 4, 5, 6, 0] (by decide) rfl 24 dX0_bitten_22 rfl ?_
    refine g_iloadn K 2 rfl rfl 25 dX0_bitten_24 rfl ?_
    refine g_iload K 4 rfl 27 dX0_bitten_25 rfl ?_
    refine g_iload K 5 rfl 29 dX0_bitten_27 rfl ?_
    refine g_iloadn K 0 rfl rfl 30 dX0_bitten_29 rfl ?_
    refine g_jn (head := 44) (L := fun j5 => [(1, .int x2), (2, .int x3), (4, .int j1.2.1), (5, .int j1.2.2.1), (6, .int j1.2.2.2)]) (sf := fun j5 => [.int j5, .int j1.2.2.1, .int j1.1]) (mf := fun j5 => ()) (fun j5 => ?_) (fun k6 h7 => ?_)
    · try dsimp only
      refine g_imul K 45 dX0_bitten_44 rfl ?_
      refine g_iadd K 46 dX0_bitten_45 rfl ?_
      refine g_nm (fun v8 _ => ?_)
      refine g_istoren K [(1, .int x2), (2, .int x3), (3, .int v8), (4, .int j1.2.1), (5, .int j1.2.2.1), (6, .int j1.2.2.2)] [1, 2, 0, 3, 4, 5] rfl (by decide) rfl 47 dX0_bitten_46 rfl ?_
      refine g_iload K 4 rfl 49 dX0_bitten_47 rfl ?_
      refine g_bipush K (nI 7) bp_7 51 dX0_bitten_49 rfl ?_
      refine g_imul K 52 dX0_bitten_51 rfl ?_
      refine g_nm (fun v9 _ => ?_)
      refine g_istore K [(1, .int x2), (2, .int x3), (3, .int v8), (4, .int j1.2.1), (5, .int v9), (6, .int j1.2.2.2)] [1, 2, 3, 4, 0, 5] (by decide) rfl 54 dX0_bitten_52 rfl ?_
      refine g_iload K 3 rfl 56 dX0_bitten_54 rfl ?_
      refine g_bipush K (nI 7) bp_7 58 dX0_bitten_56 rfl ?_
      refine g_idiv K 59 dX0_bitten_58 rfl (fun v10 _ _ => ?_)
      refine g_istore K [(1, .int x2), (2, .int x3), (3, .int v8), (4, .int v10), (5, .int v9), (6, .int j1.2.2.2)] [1, 2, 3, 0, 4, 5] (by decide) rfl 61 dX0_bitten_59 rfl ?_
      refine g_iinc K (j1.2.2.2 + (nI 1)) 5 [(1, .int x2), (2, .int x3), (3, .int v8), (4, .int v10), (5, .int v9), (6, .int (j1.2.2.2 + (nI 1)))] [1, 2, 3, 4, 5, 0] rfl (by rw [ic_1]) (by decide) rfl 64 dX0_bitten_61 rfl ?_
      refine g_goto K 11 dX0_bitten_64 (by decide) ?_
      exact h3 (v8, v10, v9, (j1.2.2.2 + (nI 1)))
    · refine g_icmp_ge K 33 38 dX0_bitten_30 rfl (by decide) (fun _ => ?_) (fun _ => ?_)
      · refine g_iload K 6 rfl 40 dX0_bitten_38 rfl ?_
        refine g_iloadn K 1 rfl rfl 41 dX0_bitten_40 rfl ?_
        refine g_mmin K 44 q1219 q878 q159 q879 (by decide) (Nat.le_of_ble_eq_true rfl) dX0_bitten_41 rfl ?_
        refine g_sub (ls' := [(1, .int x2), (2, .int x3), (4, .int j1.2.1), (5, .int j1.2.2.1), (6, .int j1.2.2.2)]) [0, 1, 3, 4, 5] rfl ?_
        exact h7 (imin v4 x3)
      · refine g_iload K 6 rfl 35 dX0_bitten_33 rfl ?_
        refine g_goto K 44 dX0_bitten_35 (by decide) ?_
        refine g_sub (ls' := [(1, .int x2), (2, .int x3), (4, .int j1.2.1), (5, .int j1.2.2.1), (6, .int j1.2.2.2)]) [0, 1, 3, 4, 5] rfl ?_
        exact h7 v4
/-- GingerRents.image(Z)Z -/
def x0_image (kd : Kd) (P : Ptr) (I : Mem) (z : Nat) (x1 : Bool) : Option (Bool × Ptr × Mem) :=
  jn (fun (j1 : Unit) =>
  jn (fun (j4 : Ptr × Mem) =>
  jn (fun (j7 : Mem) =>
  nm (up2 j7 z 9 (nI 1)) fun I10 =>
  some (true, j4.1, I10)) (fun k8 =>
  if (bI x1) = 0 then
  (x0_forgets j4.2 z).bind fun r11 =>
  k8 r11.2
  else
  k8 j4.2)) (fun k5 =>
  if (bI x1) = 0 then
  (x1_takes kd P I (z + 2) (z + 271)).bind fun r13 =>
  k5 (r13.1, r13.2)
  else
  (x1_takes kd P I (z + 271) (z + 2)).bind fun r15 =>
  k5 (r15.1, r15.2))) (fun k2 =>
  if (bI x1) = 0 then
  if (I z 9) = 0 then
  some (false, P, I)
  else
  k2 ()
  else
  k2 ())
theorem wd_x0_image : yX0_image.cls = RX0 ∧ yX0_image.cls ≠ "java/lang/invoke/MethodHandle" ∧ yX0_image.cls ≠ "java/lang/invoke/VarHandle" ∧ (parseMethodDescriptor yX0_image.desc).map (fun d => d.parameters.length) = some 1 := by decide +kernel
set_option maxRecDepth 100000 in
theorem ctx_x0_image {cs : Cs} {z : Nat} {kd : Kd} (P : Ptr) (I : Mem) (x1 : Bool) (hz : kd z = (0, 0, 0)) : CtX cs z kd yX0_image cX0_image 2 (some .boolean) 4 88 [.ref z, .int (bI x1)] (P, I) (fun r => (some (.int (bI r.1)), (r.2.1, r.2.2))) (x0_image kd P I z x1) := by
  refine CtX.of RX0 (by decide) rfl (Nat.le_of_ble_eq_true rfl) ?_
  intro l D sz p e s m args below meth c hsh K hr hlk hK
  refine g_sub (ls' := [(0, .ref z), (1, .int (bI x1))]) [0, 1] rfl ?_
  unfold x0_image
  refine g_iloadn K 1 rfl rfl 1 dX0_image_0 rfl ?_
  refine g_jn (head := 13) (L := fun j1 => [(0, .ref z), (1, .int (bI x1))]) (sf := fun j1 => []) (mf := fun j1 => (P, I)) (fun j1 => ?_) (fun k2 h3 => ?_)
  · try dsimp only
    refine g_iloadn K 1 rfl rfl 14 dX0_image_13 rfl ?_
    refine g_jn (head := 42) (L := fun j4 => [(0, .ref z), (1, .int (bI x1))]) (sf := fun j4 => []) (mf := fun j4 => (j4.1, j4.2)) (fun j4 => ?_) (fun k5 h6 => ?_)
    · try dsimp only
      refine g_iloadn K 1 rfl rfl 43 dX0_image_42 rfl ?_
      refine g_jn (head := 51) (L := fun j7 => [(0, .ref z)]) (sf := fun j7 => []) (mf := fun j7 => (j4.1, j7)) (fun j7 => ?_) (fun k8 h9 => ?_)
      · try dsimp only
        refine g_aloadn K 0 rfl rfl 52 dX0_image_51 rfl ?_
        refine g_iconst K (nI 1) ic_1 53 dX0_image_52 rfl ?_
        refine gx_put K hK hsh 9 (ty := .boolean) 56 in_X0 tyX0 tyX0_ok nmX0 hz rfl rfl (Nat.le_of_ble_eq_true rfl) rfl (by decide) (Or.inl q417) rfl (by decide +kernel) rfl rfl (Nat.le_of_ble_eq_true rfl) dX0_image_53 rfl (fun I10 _ => ?_)
        refine g_iconst K (nI 1) ic_1 57 dX0_image_56 rfl ?_
        exact gx_zret K hK hsh hr hlk (b := true) dX0_image_57 rfl rfl
      · refine g_if_ne K 46 51 dX0_image_43 rfl (by decide) (fun _ => ?_) (fun _ => ?_)
        · refine g_aloadn K 0 rfl rfl 47 dX0_image_46 rfl ?_
          refine gx_call K hK hsh 50 (ctx_x0_forgets j4.1 j4.2 hz) (lw_V q972 q974 qs28 q151 q975) wd_x0_forgets hz rfl (Nat.le_of_ble_eq_true rfl) rfl (by decide) rfl (Nat.le_of_ble_eq_true rfl) dX0_image_47 rfl (fun r11 hr12 => ?_)
          refine g_pop K rfl 51 dX0_image_50 rfl ?_
          refine g_sub (ls' := [(0, .ref z)]) [0] rfl ?_
          exact h9 r11.2
        · refine g_sub (ls' := [(0, .ref z)]) [0] rfl ?_
          exact h9 j4.2
    · refine g_if_eq K 17 31 dX0_image_14 rfl (by decide) (fun _ => ?_) (fun _ => ?_)
      · refine g_aloadn K 0 rfl rfl 32 dX0_image_31 rfl ?_
        refine gx_get K hK hsh 4 (v := .ref (z + 2)) 35 in_X0 hz rfl (Nat.le_of_ble_eq_true rfl) rfl (by decide) (Or.inl q411) rfl dX0_image_32 rfl ?_
        refine g_aloadn K 0 rfl rfl 36 dX0_image_35 rfl ?_
        refine gx_get K hK hsh 5 (v := .ref (z + 271)) 39 in_X0 hz rfl (Nat.le_of_ble_eq_true rfl) rfl (by decide) (Or.inl q413) rfl dX0_image_36 rfl ?_
        refine gx_call K hK hsh 42 (ctx_x1_takes P I (z + 2) (z + 271) (sh_0_borough hsh hz) (sh_0_kept hsh hz)) (lw_V q1466 q1467 q1468 q152 q1469) wd_x1_takes (sh_0_borough hsh hz) rfl (Nat.le_of_ble_eq_true rfl) rfl (by decide) rfl (Nat.le_of_ble_eq_true rfl) dX0_image_39 rfl (fun r13 hr14 => ?_)
        exact h6 (r13.1, r13.2)
      · refine g_aloadn K 0 rfl rfl 18 dX0_image_17 rfl ?_
        refine gx_get K hK hsh 5 (v := .ref (z + 271)) 21 in_X0 hz rfl (Nat.le_of_ble_eq_true rfl) rfl (by decide) (Or.inl q413) rfl dX0_image_18 rfl ?_
        refine g_aloadn K 0 rfl rfl 22 dX0_image_21 rfl ?_
        refine gx_get K hK hsh 4 (v := .ref (z + 2)) 25 in_X0 hz rfl (Nat.le_of_ble_eq_true rfl) rfl (by decide) (Or.inl q411) rfl dX0_image_22 rfl ?_
        refine gx_call K hK hsh 28 (ctx_x1_takes P I (z + 271) (z + 2) (sh_0_kept hsh hz) (sh_0_borough hsh hz)) (lw_V q1466 q1467 q1468 q152 q1469) wd_x1_takes (sh_0_kept hsh hz) rfl (Nat.le_of_ble_eq_true rfl) rfl (by decide) rfl (Nat.le_of_ble_eq_true rfl) dX0_image_25 rfl (fun r15 hr16 => ?_)
        refine g_goto K 42 dX0_image_28 (by decide) ?_
        exact h6 (r15.1, r15.2)
  · refine g_if_ne K 4 13 dX0_image_1 rfl (by decide) (fun _ => ?_) (fun _ => ?_)
    · refine g_aloadn K 0 rfl rfl 5 dX0_image_4 rfl ?_
      refine gx_get K hK hsh 9 (v := .int (I z 9)) 8 in_X0 hz rfl (Nat.le_of_ble_eq_true rfl) rfl (by decide) (Or.inl q417) rfl dX0_image_5 rfl ?_
      refine g_if_ne K 11 13 dX0_image_8 rfl (by decide) (fun _ => ?_) (fun _ => ?_)
      · refine g_iconst K (nI 0) ic_0 12 dX0_image_11 rfl ?_
        exact gx_zret K hK hsh hr hlk (b := false) dX0_image_12 rfl rfl
      · exact h3 ()
    · exact h3 ()
/-- java/util/ArrayList.size()I -/
def j2_size (I : Mem) (a : Nat) : Option (Int32) :=
  some (I a 2)
theorem wd_j2_size : yJ2_size.cls = RJ2 ∧ yJ2_size.cls ≠ "java/lang/invoke/MethodHandle" ∧ yJ2_size.cls ≠ "java/lang/invoke/VarHandle" ∧ (parseMethodDescriptor yJ2_size.desc).map (fun d => d.parameters.length) = some 0 := by decide +kernel
set_option maxRecDepth 100000 in
theorem ctx_j2_size {cs : Cs} {z : Nat} {kd : Kd} (P : Ptr) (I : Mem) (a : Nat) (ha : kd a = (18, 0, 0)) : CtX cs z kd yJ2_size cJ2_size 1 (some .int) 0 0 [.ref a] (P, I) (fun r => (some (.int r), (P, I))) (j2_size I a) := by
  refine CtX.of RJ2 (by decide) rfl (Nat.le_of_ble_eq_true rfl) ?_
  intro l D sz p e s m args below meth c hsh K hr hlk hK
  refine g_sub (ls' := [(0, .ref a)]) [0] rfl ?_
  unfold j2_size
  refine g_aloadn K 0 rfl rfl 1 dJ2_size_0 rfl ?_
  refine gx_get K hK hsh 2 (v := .int (I a 2)) 4 in_J2 ha rfl (Nat.le_of_ble_eq_true rfl) rfl (by decide) (Or.inl q236) rfl dJ2_size_1 rfl ?_
  exact gx_iret K hK hsh hr hlk dJ2_size_4 rfl
/-- GingerRents.look(I)I -/
def x0_look (kd : Kd) (P : Ptr) (I : Mem) (z : Nat) (x1 : Int32) : Option (Int32) :=
  if x1 = (nI 0) then
  some (I (z + 2) 14)
  else
  if x1 = (nI 1) then
  some (I (z + 2) 15)
  else
  if x1 = (nI 2) then
  some (I (z + 2) 16)
  else
  if x1 = (nI 3) then
  some (I (z + 2) 17)
  else
  if x1 = (nI 4) then
  some (I (z + 2) 18)
  else
  if x1 = (nI 5) then
  some (I (z + 2) 19)
  else
  if x1 = (nI 6) then
  (x1_standing I (z + 2)).bind fun r7 =>
  some r7
  else
  if x1 = (nI 7) then
  some (I (z + 2) 21)
  else
  if x1 = (nI 8) then
  some (I (z + 2) 20)
  else
  if x1 = (nI 9) then
  (pk kd (P (z + 2) 10) (18, 0, 0)).bind fun b12 =>
  (j2_size I b12).bind fun r14 =>
  some r14
  else
  if x1 = (nI 10) then
  (pk kd (P (z + 2) 11) (18, 0, 0)).bind fun b17 =>
  (j2_size I b17).bind fun r19 =>
  some r19
  else
  if x1 = (nI 11) then
  (pk kd (P (z + 2) 12) (18, 0, 0)).bind fun b22 =>
  (j2_size I b22).bind fun r24 =>
  some r24
  else
  if x1 = (nI 12) then
  some (I (z + 2) 22)
  else
  if x1 = (nI 13) then
  some (I z 8)
  else
  some (-1 : Int32)
theorem wd_x0_look : yX0_look.cls = RX0 ∧ yX0_look.cls ≠ "java/lang/invoke/MethodHandle" ∧ yX0_look.cls ≠ "java/lang/invoke/VarHandle" ∧ (parseMethodDescriptor yX0_look.desc).map (fun d => d.parameters.length) = some 1 := by decide +kernel
set_option maxRecDepth 100000 in
theorem ctx_x0_look {cs : Cs} {z : Nat} {kd : Kd} (P : Ptr) (I : Mem) (x1 : Int32) (hz : kd z = (0, 0, 0)) : CtX cs z kd yX0_look cX0_look 2 (some .int) 3 67 [.ref z, .int x1] (P, I) (fun r => (some (.int r), (P, I))) (x0_look kd P I z x1) := by
  refine CtX.of RX0 (by decide) rfl (Nat.le_of_ble_eq_true rfl) ?_
  intro l D sz p e s m args below meth c hsh K hr hlk hK
  refine g_sub (ls' := [(0, .ref z), (1, .int x1)]) [0, 1] rfl ?_
  unfold x0_look
  refine g_iloadn K 1 rfl rfl 1 dX0_look_0 rfl ?_
  refine g_tcase K (nI 0) 72 dX0_look_1 (by decide) (by decide) rfl (by decide) (fun _ => ?_) (fun hx1 => ?_)
  · refine g_aloadn K 0 rfl rfl 73 dX0_look_72 rfl ?_
    refine gx_get K hK hsh 4 (v := .ref (z + 2)) 76 in_X0 hz rfl (Nat.le_of_ble_eq_true rfl) rfl (by decide) (Or.inl q411) rfl dX0_look_73 rfl ?_
    refine gx_get K hK hsh 14 (v := .int (I (z + 2) 14)) 79 in_X1 (sh_0_borough hsh hz) rfl (Nat.le_of_ble_eq_true rfl) rfl (by decide) (Or.inr (nf_q327 hK.2)) rfl dX0_look_76 rfl ?_
    exact gx_iret K hK hsh hr hlk dX0_look_79 rfl
  · refine g_tcase K (nI 1) 80 dX0_look_1 (by decide) (by decide) rfl (by decide) (fun _ => ?_) (fun hx2 => ?_)
    · refine g_aloadn K 0 rfl rfl 81 dX0_look_80 rfl ?_
      refine gx_get K hK hsh 4 (v := .ref (z + 2)) 84 in_X0 hz rfl (Nat.le_of_ble_eq_true rfl) rfl (by decide) (Or.inl q411) rfl dX0_look_81 rfl ?_
      refine gx_get K hK hsh 15 (v := .int (I (z + 2) 15)) 87 in_X1 (sh_0_borough hsh hz) rfl (Nat.le_of_ble_eq_true rfl) rfl (by decide) (Or.inr (nf_q330 hK.2)) rfl dX0_look_84 rfl ?_
      exact gx_iret K hK hsh hr hlk dX0_look_87 rfl
    · refine g_tcase K (nI 2) 88 dX0_look_1 (by decide) (by decide) rfl (by decide) (fun _ => ?_) (fun hx3 => ?_)
      · refine g_aloadn K 0 rfl rfl 89 dX0_look_88 rfl ?_
        refine gx_get K hK hsh 4 (v := .ref (z + 2)) 92 in_X0 hz rfl (Nat.le_of_ble_eq_true rfl) rfl (by decide) (Or.inl q411) rfl dX0_look_89 rfl ?_
        refine gx_get K hK hsh 16 (v := .int (I (z + 2) 16)) 95 in_X1 (sh_0_borough hsh hz) rfl (Nat.le_of_ble_eq_true rfl) rfl (by decide) (Or.inr (nf_q333 hK.2)) rfl dX0_look_92 rfl ?_
        exact gx_iret K hK hsh hr hlk dX0_look_95 rfl
      · refine g_tcase K (nI 3) 96 dX0_look_1 (by decide) (by decide) rfl (by decide) (fun _ => ?_) (fun hx4 => ?_)
        · refine g_aloadn K 0 rfl rfl 97 dX0_look_96 rfl ?_
          refine gx_get K hK hsh 4 (v := .ref (z + 2)) 100 in_X0 hz rfl (Nat.le_of_ble_eq_true rfl) rfl (by decide) (Or.inl q411) rfl dX0_look_97 rfl ?_
          refine gx_get K hK hsh 17 (v := .int (I (z + 2) 17)) 103 in_X1 (sh_0_borough hsh hz) rfl (Nat.le_of_ble_eq_true rfl) rfl (by decide) (Or.inr (nf_q335 hK.2)) rfl dX0_look_100 rfl ?_
          exact gx_iret K hK hsh hr hlk dX0_look_103 rfl
        · refine g_tcase K (nI 4) 104 dX0_look_1 (by decide) (by decide) rfl (by decide) (fun _ => ?_) (fun hx5 => ?_)
          · refine g_aloadn K 0 rfl rfl 105 dX0_look_104 rfl ?_
            refine gx_get K hK hsh 4 (v := .ref (z + 2)) 108 in_X0 hz rfl (Nat.le_of_ble_eq_true rfl) rfl (by decide) (Or.inl q411) rfl dX0_look_105 rfl ?_
            refine gx_get K hK hsh 18 (v := .int (I (z + 2) 18)) 111 in_X1 (sh_0_borough hsh hz) rfl (Nat.le_of_ble_eq_true rfl) rfl (by decide) (Or.inr (nf_q337 hK.2)) rfl dX0_look_108 rfl ?_
            exact gx_iret K hK hsh hr hlk dX0_look_111 rfl
          · refine g_tcase K (nI 5) 112 dX0_look_1 (by decide) (by decide) rfl (by decide) (fun _ => ?_) (fun hx6 => ?_)
            · refine g_aloadn K 0 rfl rfl 113 dX0_look_112 rfl ?_
              refine gx_get K hK hsh 4 (v := .ref (z + 2)) 116 in_X0 hz rfl (Nat.le_of_ble_eq_true rfl) rfl (by decide) (Or.inl q411) rfl dX0_look_113 rfl ?_
              refine gx_get K hK hsh 19 (v := .int (I (z + 2) 19)) 119 in_X1 (sh_0_borough hsh hz) rfl (Nat.le_of_ble_eq_true rfl) rfl (by decide) (Or.inr (nf_q339 hK.2)) rfl dX0_look_116 rfl ?_
              exact gx_iret K hK hsh hr hlk dX0_look_119 rfl
            · refine g_tcase K (nI 6) 120 dX0_look_1 (by decide) (by decide) rfl (by decide) (fun _ => ?_) (fun hx9 => ?_)
              · refine g_aloadn K 0 rfl rfl 121 dX0_look_120 rfl ?_
                refine gx_get K hK hsh 4 (v := .ref (z + 2)) 124 in_X0 hz rfl (Nat.le_of_ble_eq_true rfl) rfl (by decide) (Or.inl q411) rfl dX0_look_121 rfl ?_
                refine gx_call K hK hsh 127 (ctx_x1_standing P I (z + 2) (sh_0_borough hsh hz)) (lw_V q1274 q1071 q1072 q152 q1073) wd_x1_standing (sh_0_borough hsh hz) rfl (Nat.le_of_ble_eq_true rfl) rfl (by decide) rfl (Nat.le_of_ble_eq_true rfl) dX0_look_124 rfl (fun r7 hr8 => ?_)
                exact gx_iret K hK hsh hr hlk dX0_look_127 rfl
              · refine g_tcase K (nI 7) 128 dX0_look_1 (by decide) (by decide) rfl (by decide) (fun _ => ?_) (fun hx10 => ?_)
                · refine g_aloadn K 0 rfl rfl 129 dX0_look_128 rfl ?_
                  refine gx_get K hK hsh 4 (v := .ref (z + 2)) 132 in_X0 hz rfl (Nat.le_of_ble_eq_true rfl) rfl (by decide) (Or.inl q411) rfl dX0_look_129 rfl ?_
                  refine gx_get K hK hsh 21 (v := .int (I (z + 2) 21)) 135 in_X1 (sh_0_borough hsh hz) rfl (Nat.le_of_ble_eq_true rfl) rfl (by decide) (Or.inr (nf_q343 hK.2)) rfl dX0_look_132 rfl ?_
                  exact gx_iret K hK hsh hr hlk dX0_look_135 rfl
                · refine g_tcase K (nI 8) 136 dX0_look_1 (by decide) (by decide) rfl (by decide) (fun _ => ?_) (fun hx11 => ?_)
                  · refine g_aloadn K 0 rfl rfl 137 dX0_look_136 rfl ?_
                    refine gx_get K hK hsh 4 (v := .ref (z + 2)) 140 in_X0 hz rfl (Nat.le_of_ble_eq_true rfl) rfl (by decide) (Or.inl q411) rfl dX0_look_137 rfl ?_
                    refine gx_get K hK hsh 20 (v := .int (I (z + 2) 20)) 143 in_X1 (sh_0_borough hsh hz) rfl (Nat.le_of_ble_eq_true rfl) rfl (by decide) (Or.inr (nf_q341 hK.2)) rfl dX0_look_140 rfl ?_
                    exact gx_iret K hK hsh hr hlk dX0_look_143 rfl
                  · refine g_tcase K (nI 9) 144 dX0_look_1 (by decide) (by decide) rfl (by decide) (fun _ => ?_) (fun hx16 => ?_)
                    · refine g_aloadn K 0 rfl rfl 145 dX0_look_144 rfl ?_
                      refine gx_get K hK hsh 4 (v := .ref (z + 2)) 148 in_X0 hz rfl (Nat.le_of_ble_eq_true rfl) rfl (by decide) (Or.inl q411) rfl dX0_look_145 rfl ?_
                      refine gx_getp K hK hsh 10 (18, 0, 0) 151 in_X1 (sh_0_borough hsh hz) rfl (Nat.le_of_ble_eq_true rfl) rfl (by decide) (Or.inr (nf_q318 hK.2)) rfl dX0_look_148 rfl (fun b12 hb13 => ?_)
                      refine gx_call K hK hsh 154 (ctx_j2_size P I b12 hb13) (lw_V q885 q712 q713 q156 q714) wd_j2_size hb13 rfl (Nat.le_of_ble_eq_true rfl) rfl (by decide) rfl (Nat.le_of_ble_eq_true rfl) dX0_look_151 rfl (fun r14 hr15 => ?_)
                      exact gx_iret K hK hsh hr hlk dX0_look_154 rfl
                    · refine g_tcase K (nI 10) 155 dX0_look_1 (by decide) (by decide) rfl (by decide) (fun _ => ?_) (fun hx21 => ?_)
                      · refine g_aloadn K 0 rfl rfl 156 dX0_look_155 rfl ?_
                        refine gx_get K hK hsh 4 (v := .ref (z + 2)) 159 in_X0 hz rfl (Nat.le_of_ble_eq_true rfl) rfl (by decide) (Or.inl q411) rfl dX0_look_156 rfl ?_
                        refine gx_getp K hK hsh 11 (18, 0, 0) 162 in_X1 (sh_0_borough hsh hz) rfl (Nat.le_of_ble_eq_true rfl) rfl (by decide) (Or.inr (nf_q320 hK.2)) rfl dX0_look_159 rfl (fun b17 hb18 => ?_)
                        refine gx_call K hK hsh 165 (ctx_j2_size P I b17 hb18) (lw_V q885 q712 q713 q156 q714) wd_j2_size hb18 rfl (Nat.le_of_ble_eq_true rfl) rfl (by decide) rfl (Nat.le_of_ble_eq_true rfl) dX0_look_162 rfl (fun r19 hr20 => ?_)
                        exact gx_iret K hK hsh hr hlk dX0_look_165 rfl
                      · refine g_tcase K (nI 11) 166 dX0_look_1 (by decide) (by decide) rfl (by decide) (fun _ => ?_) (fun hx26 => ?_)
                        · refine g_aloadn K 0 rfl rfl 167 dX0_look_166 rfl ?_
                          refine gx_get K hK hsh 4 (v := .ref (z + 2)) 170 in_X0 hz rfl (Nat.le_of_ble_eq_true rfl) rfl (by decide) (Or.inl q411) rfl dX0_look_167 rfl ?_
                          refine gx_getp K hK hsh 12 (18, 0, 0) 173 in_X1 (sh_0_borough hsh hz) rfl (Nat.le_of_ble_eq_true rfl) rfl (by decide) (Or.inr (nf_q322 hK.2)) rfl dX0_look_170 rfl (fun b22 hb23 => ?_)
                          refine gx_call K hK hsh 176 (ctx_j2_size P I b22 hb23) (lw_V q885 q712 q713 q156 q714) wd_j2_size hb23 rfl (Nat.le_of_ble_eq_true rfl) rfl (by decide) rfl (Nat.le_of_ble_eq_true rfl) dX0_look_173 rfl (fun r24 hr25 => ?_)
                          exact gx_iret K hK hsh hr hlk dX0_look_176 rfl
                        · refine g_tcase K (nI 12) 177 dX0_look_1 (by decide) (by decide) rfl (by decide) (fun _ => ?_) (fun hx27 => ?_)
                          · refine g_aloadn K 0 rfl rfl 178 dX0_look_177 rfl ?_
                            refine gx_get K hK hsh 4 (v := .ref (z + 2)) 181 in_X0 hz rfl (Nat.le_of_ble_eq_true rfl) rfl (by decide) (Or.inl q411) rfl dX0_look_178 rfl ?_
                            refine gx_get K hK hsh 22 (v := .int (I (z + 2) 22)) 184 in_X1 (sh_0_borough hsh hz) rfl (Nat.le_of_ble_eq_true rfl) rfl (by decide) (Or.inr (nf_q345 hK.2)) rfl dX0_look_181 rfl ?_
                            exact gx_iret K hK hsh hr hlk dX0_look_184 rfl
                          · refine g_tcase K (nI 13) 185 dX0_look_1 (by decide) (by decide) rfl (by decide) (fun _ => ?_) (fun hx28 => ?_)
                            · refine g_aloadn K 0 rfl rfl 186 dX0_look_185 rfl ?_
                              refine gx_get K hK hsh 8 (v := .int (I z 8)) 189 in_X0 hz rfl (Nat.le_of_ble_eq_true rfl) rfl (by decide) (Or.inl q416) rfl dX0_look_186 rfl ?_
                              exact gx_iret K hK hsh hr hlk dX0_look_189 rfl
                            · refine g_tdef K 190 dX0_look_1 (by have := tne (k := 0) (by decide) hx1; have := tne (k := 1) (by decide) hx2; have := tne (k := 2) (by decide) hx3; have := tne (k := 3) (by decide) hx4; have := tne (k := 4) (by decide) hx5; have := tne (k := 5) (by decide) hx6; have := tne (k := 6) (by decide) hx9; have := tne (k := 7) (by decide) hx10; have := tne (k := 8) (by decide) hx11; have := tne (k := 9) (by decide) hx16; have := tne (k := 10) (by decide) hx21; have := tne (k := 11) (by decide) hx26; have := tne (k := 12) (by decide) hx27; have := tne (k := 13) (by decide) hx28; omega) (by decide) ?_
                              refine g_iconst K (-1 : Int32) ic_m1 191 dX0_look_190 rfl ?_
                              exact gx_iret K hK hsh hr hlk dX0_look_191 rfl
