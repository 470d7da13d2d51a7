theorem bp_14 : (Int8.ofInt (14)).toInt32 = (nI 14) := by decide
theorem bp_15 : (Int8.ofInt (15)).toInt32 = (nI 15) := by decide
theorem sp_180 : (Int16.ofInt (180)).toInt32 = (nI 180) := by decide
theorem sp_181 : (Int16.ofInt (181)).toInt32 = (nI 181) := by decide
theorem sp_182 : (Int16.ofInt (182)).toInt32 = (nI 182) := by decide
theorem sp_183 : (Int16.ofInt (183)).toInt32 = (nI 183) := by decide
theorem sp_184 : (Int16.ofInt (184)).toInt32 = (nI 184) := by decide
theorem sp_185 : (Int16.ofInt (185)).toInt32 = (nI 185) := by decide
theorem sp_186 : (Int16.ofInt (186)).toInt32 = (nI 186) := by decide
theorem sp_187 : (Int16.ofInt (187)).toInt32 = (nI 187) := by decide
theorem sp_188 : (Int16.ofInt (188)).toInt32 = (nI 188) := by decide
theorem sp_189 : (Int16.ofInt (189)).toInt32 = (nI 189) := by decide
theorem sp_190 : (Int16.ofInt (190)).toInt32 = (nI 190) := by decide
theorem sp_191 : (Int16.ofInt (191)).toInt32 = (nI 191) := by decide
theorem zb_bI {v : Int32} (h : v = 0 ∨ v = 1) : v = bI (v == 1) := by rcases h with rfl | rfl <;> rfl
/-- GingerRents$Reader.see()I -/
def x5_see (I : Mem) (z a : Nat) : Option (Int32) :=
  if (I z 1) ≤ (I a 2) then
  some (-1 : Int32)
  else
  (rd I (z + 1) 400 (I a 2)).bind fun v1 =>
  some (v1 &&& (nI 255))
theorem wd_x5_see : yX5_see.cls = RX5 ∧ yX5_see.cls ≠ "java/lang/invoke/MethodHandle" ∧ yX5_see.cls ≠ "java/lang/invoke/VarHandle" ∧ (parseMethodDescriptor yX5_see.desc).map (fun d => d.parameters.length) = some 0 := by decide +kernel
set_option maxRecDepth 100000 in
theorem ctx_x5_see {cs : Cs} {z : Nat} {kd : Kd} (P : Ptr) (I : Mem) (a : Nat) (ha : kd a = (5, 0, 0)) : CtX cs z kd yX5_see cX5_see 1 (some .int) 0 0 [.ref a] (P, I) (fun r => (some (.int r), (P, I))) (x5_see I z a) := by
  refine CtX.of RX5 (by decide) rfl (Nat.le_of_ble_eq_true rfl) ?_
  intro l D sz p e s m args below meth c hsh K hr hlk hK
  refine g_sub (ls' := [(0, .ref a)]) [0] rfl ?_
  unfold x5_see
  refine g_aloadn K 0 rfl rfl 1 dX5_see_0 rfl ?_
  refine gx_get K hK hsh 2 (v := .int (I a 2)) 4 in_X5 ha rfl (Nat.le_of_ble_eq_true rfl) rfl (by decide) (Or.inl q498) rfl dX5_see_1 rfl ?_
  refine g_aloadn K 0 rfl rfl 5 dX5_see_4 rfl ?_
  refine gx_get K hK hsh 8 (v := .ref z) 8 in_X5 ha rfl (Nat.le_of_ble_eq_true rfl) rfl (by decide) (Or.inl q505) rfl dX5_see_5 rfl ?_
  refine gx_get K hK hsh 1 (v := .int (I z 1)) 11 in_X0 (sh_5_this_0 hsh ha) rfl (Nat.le_of_ble_eq_true rfl) rfl (by decide) (Or.inr (nf_q407 hK.2)) rfl dX5_see_8 rfl ?_
  refine g_icmp_ge K 14 33 dX5_see_11 rfl (by decide) (fun _ => ?_) (fun _ => ?_)
  · refine g_iconst K (-1 : Int32) ic_m1 34 dX5_see_33 rfl ?_
    exact gx_iret K hK hsh hr hlk dX5_see_34 rfl
  · refine g_aloadn K 0 rfl rfl 15 dX5_see_14 rfl ?_
    refine gx_get K hK hsh 8 (v := .ref z) 18 in_X5 ha rfl (Nat.le_of_ble_eq_true rfl) rfl (by decide) (Or.inl q505) rfl dX5_see_15 rfl ?_
    refine gx_get K hK hsh 0 (v := .ref (z + 1)) 21 in_X0 (sh_5_this_0 hsh ha) rfl (Nat.le_of_ble_eq_true rfl) rfl (by decide) (Or.inr (nf_q406 hK.2)) rfl dX5_see_18 rfl ?_
    refine g_aloadn K 0 rfl rfl 22 dX5_see_21 rfl ?_
    refine gx_get K hK hsh 2 (v := .int (I a 2)) 25 in_X5 ha rfl (Nat.le_of_ble_eq_true rfl) rfl (by decide) (Or.inl q498) rfl dX5_see_22 rfl ?_
    refine gx_bld K hK hsh 26 (sh_0_tape hsh (sh_5_this_0 hsh ha)) dX5_see_25 rfl (fun v1 => ?_)
    refine g_sipush K (nI 255) sp_255 29 dX5_see_26 rfl ?_
    refine g_iand K 30 dX5_see_29 rfl ?_
    refine g_goto K 34 dX5_see_30 (by decide) ?_
    exact gx_iret K hK hsh hr hlk dX5_see_34 rfl
/-- GingerRents$Reader.isLetter()Z -/
def x5_isLetter (I : Mem) (z a : Nat) : Option (Bool) :=
  (x5_see I z a).bind fun r1 =>
  (x0_isIn r1 (nI 97) (nI 122)).bind fun r3 =>
  if (bI r3) = 0 then
  (x5_see I z a).bind fun r4 =>
  (x0_isIn r4 (nI 65) (nI 90)).bind fun r6 =>
  if (bI r6) = 0 then
  some false
  else
  some true
  else
  some true
theorem wd_x5_isLetter : yX5_isLetter.cls = RX5 ∧ yX5_isLetter.cls ≠ "java/lang/invoke/MethodHandle" ∧ yX5_isLetter.cls ≠ "java/lang/invoke/VarHandle" ∧ (parseMethodDescriptor yX5_isLetter.desc).map (fun d => d.parameters.length) = some 0 := by decide +kernel
set_option maxRecDepth 100000 in
theorem ctx_x5_isLetter {cs : Cs} {z : Nat} {kd : Kd} (P : Ptr) (I : Mem) (a : Nat) (ha : kd a = (5, 0, 0)) : CtX cs z kd yX5_isLetter cX5_isLetter 1 (some .boolean) 1 22 [.ref a] (P, I) (fun r => (some (.int (bI r)), (P, I))) (x5_isLetter I z a) := by
  refine CtX.of RX5 (by decide) rfl (Nat.le_of_ble_eq_true rfl) ?_
  intro l D sz p e s m args below meth c hsh K hr hlk hK
  refine g_sub (ls' := [(0, .ref a)]) [0] rfl ?_
  unfold x5_isLetter
  refine g_aloadn K 0 rfl rfl 1 dX5_isLetter_0 rfl ?_
  refine gx_call K hK hsh 4 (ctx_x5_see P I a ha) (lw_V q535 q537 qs3 q163 q538) wd_x5_see ha rfl (Nat.le_of_ble_eq_true rfl) rfl (by decide) rfl (Nat.le_of_ble_eq_true rfl) dX5_isLetter_1 rfl (fun r1 hr2 => ?_)
  refine g_bipush K (nI 97) bp_97 6 dX5_isLetter_4 rfl ?_
  refine g_bipush K (nI 122) bp_122 8 dX5_isLetter_6 rfl ?_
  refine g_callSN K 11 (cts_x0_isIn r1 (nI 97) (nI 122)) (nm_q543 hK.2) q480 q151 q479 wds_x0_isIn (by decide) rfl (Nat.le_of_ble_eq_true rfl) dX5_isLetter_8 rfl (fun r3 _ => ?_)
  refine g_if_ne K 14 28 dX5_isLetter_11 rfl (by decide) (fun _ => ?_) (fun _ => ?_)
  · refine g_aloadn K 0 rfl rfl 15 dX5_isLetter_14 rfl ?_
    refine gx_call K hK hsh 18 (ctx_x5_see P I a ha) (lw_V q535 q537 qs3 q163 q538) wd_x5_see ha rfl (Nat.le_of_ble_eq_true rfl) rfl (by decide) rfl (Nat.le_of_ble_eq_true rfl) dX5_isLetter_15 rfl (fun r4 hr5 => ?_)
    refine g_bipush K (nI 65) bp_65 20 dX5_isLetter_18 rfl ?_
    refine g_bipush K (nI 90) bp_90 22 dX5_isLetter_20 rfl ?_
    refine g_callSN K 25 (cts_x0_isIn r4 (nI 65) (nI 90)) (nm_q543 hK.2) q480 q151 q479 wds_x0_isIn (by decide) rfl (Nat.le_of_ble_eq_true rfl) dX5_isLetter_22 rfl (fun r6 _ => ?_)
    refine g_if_eq K 28 32 dX5_isLetter_25 rfl (by decide) (fun _ => ?_) (fun _ => ?_)
    · refine g_iconst K (nI 0) ic_0 33 dX5_isLetter_32 rfl ?_
      exact gx_zret K hK hsh hr hlk (b := false) dX5_isLetter_33 rfl rfl
    · refine g_iconst K (nI 1) ic_1 29 dX5_isLetter_28 rfl ?_
      refine g_goto K 33 dX5_isLetter_29 (by decide) ?_
      exact gx_zret K hK hsh hr hlk (b := true) dX5_isLetter_33 rfl rfl
  · refine g_iconst K (nI 1) ic_1 29 dX5_isLetter_28 rfl ?_
    refine g_goto K 33 dX5_isLetter_29 (by decide) ?_
    exact gx_zret K hK hsh hr hlk (b := true) dX5_isLetter_33 rfl rfl
/-- GingerRents$Reader.isDigit()Z -/
def x5_isDigit (I : Mem) (z a : Nat) : Option (Bool) :=
  (x5_see I z a).bind fun r1 =>
  (x0_isIn r1 (nI 48) (nI 57)).bind fun r3 =>
  some r3
theorem wd_x5_isDigit : yX5_isDigit.cls = RX5 ∧ yX5_isDigit.cls ≠ "java/lang/invoke/MethodHandle" ∧ yX5_isDigit.cls ≠ "java/lang/invoke/VarHandle" ∧ (parseMethodDescriptor yX5_isDigit.desc).map (fun d => d.parameters.length) = some 0 := by decide +kernel
set_option maxRecDepth 100000 in
theorem ctx_x5_isDigit {cs : Cs} {z : Nat} {kd : Kd} (P : Ptr) (I : Mem) (a : Nat) (ha : kd a = (5, 0, 0)) : CtX cs z kd yX5_isDigit cX5_isDigit 1 (some .boolean) 1 22 [.ref a] (P, I) (fun r => (some (.int (bI r)), (P, I))) (x5_isDigit I z a) := by
  refine CtX.of RX5 (by decide) rfl (Nat.le_of_ble_eq_true rfl) ?_
  intro l D sz p e s m args below meth c hsh K hr hlk hK
  refine g_sub (ls' := [(0, .ref a)]) [0] rfl ?_
  unfold x5_isDigit
  refine g_aloadn K 0 rfl rfl 1 dX5_isDigit_0 rfl ?_
  refine gx_call K hK hsh 4 (ctx_x5_see P I a ha) (lw_V q535 q537 qs3 q163 q538) wd_x5_see ha rfl (Nat.le_of_ble_eq_true rfl) rfl (by decide) rfl (Nat.le_of_ble_eq_true rfl) dX5_isDigit_1 rfl (fun r1 hr2 => ?_)
  refine g_bipush K (nI 48) bp_48 6 dX5_isDigit_4 rfl ?_
  refine g_bipush K (nI 57) bp_57 8 dX5_isDigit_6 rfl ?_
  refine g_callSN K 11 (cts_x0_isIn r1 (nI 48) (nI 57)) (nm_q543 hK.2) q480 q151 q479 wds_x0_isIn (by decide) rfl (Nat.le_of_ble_eq_true rfl) dX5_isDigit_8 rfl (fun r3 _ => ?_)
  exact gx_zret K hK hsh hr hlk (b := r3) dX5_isDigit_11 rfl rfl
/-- GingerRents$Reader.is(Ljava/lang/String;)Z -/
def x5_is (I : Mem) (z a : Nat) (x1 : Nat) : Option (Bool) :=
  (j7_length x1).bind fun r1 =>
  jn (fun (j2 : Int32) =>
  lp (fun again6 (j5 : Int32 × Int32) =>
  (j7_length x1).bind fun r8 =>
  if r8 ≤ j5.2 then
  (zb j5.1).bind fun _ =>
  some (j5.1 == 1)
  else
  if j5.1 = 0 then
  (zb j5.1).bind fun _ =>
  some (j5.1 == 1)
  else
  (rd I (z + 1) 400 ((I a 3) + j5.2)).bind fun v11 =>
  (j7_charAt x1 j5.2).bind fun r12 =>
  jn (fun (j13 : Int32) =>
  again6 (j13, (j5.2 + (nI 1)))) (fun k14 =>
  if v11 = (chv x1 r12) then
  k14 (nI 1)
  else
  k14 (nI 0))) fuel (j2, (nI 0))) (fun k3 =>
  if ((I a 2) - (I a 3)) = r1 then
  k3 (nI 1)
  else
  k3 (nI 0))
theorem wd_x5_is : yX5_is.cls = RX5 ∧ yX5_is.cls ≠ "java/lang/invoke/MethodHandle" ∧ yX5_is.cls ≠ "java/lang/invoke/VarHandle" ∧ (parseMethodDescriptor yX5_is.desc).map (fun d => d.parameters.length) = some 1 := by decide +kernel
set_option maxRecDepth 100000 in
theorem ctx_x5_is {cs : Cs} {z : Nat} {kd : Kd} (P : Ptr) (I : Mem) (a : Nat) (x1 : Nat) (ha : kd a = (5, 0, 0)) (hx1 : x1 < 27) : CtX cs z kd yX5_is cX5_is 4 (some .boolean) 4 85 [.ref a, .ref (cs (100 + x1))] (P, I) (fun r => (some (.int (bI r)), (P, I))) (x5_is I z a x1) := by
  refine CtX.of RX5 (by decide) rfl (Nat.le_of_ble_eq_true rfl) ?_
  intro l D sz p e s m args below meth c hsh K hr hlk hK
  refine g_sub (ls' := [(0, .ref a), (1, .ref (cs (100 + x1)))]) [0, 1] rfl ?_
  unfold x5_is
  refine g_aloadn K 0 rfl rfl 1 dX5_is_0 rfl ?_
  refine gx_get K hK hsh 2 (v := .int (I a 2)) 4 in_X5 ha rfl (Nat.le_of_ble_eq_true rfl) rfl (by decide) (Or.inl q498) rfl dX5_is_1 rfl ?_
  refine g_aloadn K 0 rfl rfl 5 dX5_is_4 rfl ?_
  refine gx_get K hK hsh 3 (v := .int (I a 3)) 8 in_X5 ha rfl (Nat.le_of_ble_eq_true rfl) rfl (by decide) (Or.inl q499) rfl dX5_is_5 rfl ?_
  refine g_isub K 9 dX5_is_8 rfl ?_
  refine g_aloadn K 1 rfl rfl 10 dX5_is_9 rfl ?_
  refine gx_calls K hK hsh x1 hx1 13 (ctx_j7_length P I x1 hx1) (lw_V q557 q558 q559 q164 q560) wds_length (by decide) rfl (Nat.le_of_ble_eq_true rfl) dX5_is_10 rfl (fun r1 _ => ?_)
  refine g_jn (head := 21) (L := fun j2 => [(0, .ref a), (1, .ref (cs (100 + x1)))]) (sf := fun j2 => [.int j2]) (mf := fun j2 => (P, I)) (fun j2 => ?_) (fun k3 h4 => ?_)
  · try dsimp only
    refine g_istoren K [(0, .ref a), (1, .ref (cs (100 + x1))), (2, .int j2)] [1, 2, 0] rfl (by decide) rfl 22 dX5_is_21 rfl ?_
    refine g_iconst K (nI 0) ic_0 23 dX5_is_22 rfl ?_
    refine g_istoren K [(0, .ref a), (1, .ref (cs (100 + x1))), (2, .int j2), (3, .int (nI 0))] [1, 2, 3, 0] rfl (by decide) rfl 24 dX5_is_23 rfl ?_
    refine g_lp (head := 24) (L := fun j5 => [(0, .ref a), (1, .ref (cs (100 + x1))), (2, .int j5.1), (3, .int j5.2)]) (sf := fun j5 => []) (mf := fun j5 => (P, I)) (fun again6 h7 j5 => ?_) fuel (j2, (nI 0))
    try dsimp only
    refine g_iloadn K 3 rfl rfl 25 dX5_is_24 rfl ?_
    refine g_aloadn K 1 rfl rfl 26 dX5_is_25 rfl ?_
    refine gx_calls K hK hsh x1 hx1 29 (ctx_j7_length P I x1 hx1) (lw_V q557 q558 q559 q164 q560) wds_length (by decide) rfl (Nat.le_of_ble_eq_true rfl) dX5_is_26 rfl (fun r8 _ => ?_)
    refine g_icmp_ge K 32 70 dX5_is_29 rfl (by decide) (fun _ => ?_) (fun _ => ?_)
    · refine g_iloadn K 2 rfl rfl 71 dX5_is_70 rfl ?_
      refine gx_zb (fun hz9 => ?_)
      exact gx_zret K hK hsh hr hlk (b := (j5.1 == 1)) dX5_is_71 (zb_bI hz9) rfl
    · refine g_iloadn K 2 rfl rfl 33 dX5_is_32 rfl ?_
      refine g_if_eq K 36 70 dX5_is_33 rfl (by decide) (fun _ => ?_) (fun _ => ?_)
      · refine g_iloadn K 2 rfl rfl 71 dX5_is_70 rfl ?_
        refine gx_zb (fun hz10 => ?_)
        exact gx_zret K hK hsh hr hlk (b := (j5.1 == 1)) dX5_is_71 (zb_bI hz10) rfl
      · refine g_aloadn K 0 rfl rfl 37 dX5_is_36 rfl ?_
        refine gx_get K hK hsh 8 (v := .ref z) 40 in_X5 ha rfl (Nat.le_of_ble_eq_true rfl) rfl (by decide) (Or.inl q505) rfl dX5_is_37 rfl ?_
        refine gx_get K hK hsh 0 (v := .ref (z + 1)) 43 in_X0 (sh_5_this_0 hsh ha) rfl (Nat.le_of_ble_eq_true rfl) rfl (by decide) (Or.inr (nf_q406 hK.2)) rfl dX5_is_40 rfl ?_
        refine g_aloadn K 0 rfl rfl 44 dX5_is_43 rfl ?_
        refine gx_get K hK hsh 3 (v := .int (I a 3)) 47 in_X5 ha rfl (Nat.le_of_ble_eq_true rfl) rfl (by decide) (Or.inl q499) rfl dX5_is_44 rfl ?_
        refine g_iloadn K 3 rfl rfl 48 dX5_is_47 rfl ?_
        refine g_iadd K 49 dX5_is_48 rfl ?_
        refine gx_bld K hK hsh 50 (sh_0_tape hsh (sh_5_this_0 hsh ha)) dX5_is_49 rfl (fun v11 => ?_)
        refine g_aloadn K 1 rfl rfl 51 dX5_is_50 rfl ?_
        refine g_iloadn K 3 rfl rfl 52 dX5_is_51 rfl ?_
        refine gx_calls K hK hsh x1 hx1 55 (ctx_j7_charAt P I x1 hx1 j5.2) (lw_V q567 q568 q569 q164 q570) wds_charAt (by decide) rfl (Nat.le_of_ble_eq_true rfl) dX5_is_52 rfl (fun r12 _ => ?_)
        refine g_jn (head := 63) (L := fun j13 => [(0, .ref a), (1, .ref (cs (100 + x1))), (3, .int j5.2)]) (sf := fun j13 => [.int j13]) (mf := fun j13 => (P, I)) (fun j13 => ?_) (fun k14 h15 => ?_)
        · try dsimp only
          refine g_istoren K [(0, .ref a), (1, .ref (cs (100 + x1))), (2, .int j13), (3, .int j5.2)] [1, 2, 0, 3] rfl (by decide) rfl 64 dX5_is_63 rfl ?_
          refine g_iinc K (j5.2 + (nI 1)) 3 [(0, .ref a), (1, .ref (cs (100 + x1))), (2, .int j13), (3, .int (j5.2 + (nI 1)))] [1, 2, 3, 0] rfl (by rw [ic_1]) (by decide) rfl 67 dX5_is_64 rfl ?_
          refine g_goto K 24 dX5_is_67 (by decide) ?_
          exact h7 (j13, (j5.2 + (nI 1)))
        · refine g_icmp_ne K 58 62 dX5_is_55 rfl (by decide) (fun _ => ?_) (fun _ => ?_)
          · refine g_iconst K (nI 1) ic_1 59 dX5_is_58 rfl ?_
            refine g_goto K 63 dX5_is_59 (by decide) ?_
            refine g_sub (ls' := [(0, .ref a), (1, .ref (cs (100 + x1))), (3, .int j5.2)]) [0, 1, 3] rfl ?_
            exact h15 (nI 1)
          · refine g_iconst K (nI 0) ic_0 63 dX5_is_62 rfl ?_
            refine g_sub (ls' := [(0, .ref a), (1, .ref (cs (100 + x1))), (3, .int j5.2)]) [0, 1, 3] rfl ?_
            exact h15 (nI 0)
  · refine g_icmp_ne K 16 20 dX5_is_13 rfl (by decide) (fun _ => ?_) (fun _ => ?_)
    · refine g_iconst K (nI 1) ic_1 17 dX5_is_16 rfl ?_
      refine g_goto K 21 dX5_is_17 (by decide) ?_
      exact h4 (nI 1)
    · refine g_iconst K (nI 0) ic_0 21 dX5_is_20 rfl ?_
      exact h4 (nI 0)
/-- GingerRents$Reader.asked()I -/
def x5_asked (I : Mem) (z a : Nat) : Option (Int32) :=
  (x5_is I z a 7).bind fun r1 =>
  if (bI r1) = 0 then
  (x5_is I z a 8).bind fun r3 =>
  if (bI r3) = 0 then
  (x5_is I z a 9).bind fun r5 =>
  if (bI r5) = 0 then
  (x5_is I z a 10).bind fun r7 =>
  if (bI r7) = 0 then
  (x5_is I z a 11).bind fun r9 =>
  if (bI r9) = 0 then
  (x5_is I z a 12).bind fun r11 =>
  if (bI r11) = 0 then
  (x5_is I z a 13).bind fun r13 =>
  if (bI r13) = 0 then
  (x5_is I z a 14).bind fun r15 =>
  if (bI r15) = 0 then
  (x5_is I z a 15).bind fun r17 =>
  if (bI r17) = 0 then
  (x5_is I z a 16).bind fun r19 =>
  if (bI r19) = 0 then
  (x5_is I z a 17).bind fun r21 =>
  if (bI r21) = 0 then
  (x5_is I z a 18).bind fun r23 =>
  if (bI r23) = 0 then
  some (nI 1)
  else
  some (nI 191)
  else
  some (nI 190)
  else
  some (nI 189)
  else
  some (nI 188)
  else
  some (nI 187)
  else
  some (nI 186)
  else
  some (nI 185)
  else
  some (nI 184)
  else
  some (nI 183)
  else
  some (nI 182)
  else
  some (nI 181)
  else
  some (nI 180)
theorem wd_x5_asked : yX5_asked.cls = RX5 ∧ yX5_asked.cls ≠ "java/lang/invoke/MethodHandle" ∧ yX5_asked.cls ≠ "java/lang/invoke/VarHandle" ∧ (parseMethodDescriptor yX5_asked.desc).map (fun d => d.parameters.length) = some 0 := by decide +kernel
set_option maxRecDepth 100000 in
theorem ctx_x5_asked {cs : Cs} {z : Nat} {kd : Kd} (P : Ptr) (I : Mem) (a : Nat) (ha : kd a = (5, 0, 0)) : CtX cs z kd yX5_asked cX5_asked 1 (some .int) 5 108 [.ref a] (P, I) (fun r => (some (.int r), (P, I))) (x5_asked I z a) := by
  refine CtX.of RX5 (by decide) rfl (Nat.le_of_ble_eq_true rfl) ?_
  intro l D sz p e s m args below meth c hsh K hr hlk hK
  refine g_sub (ls' := [(0, .ref a)]) [0] rfl ?_
  unfold x5_asked
  refine g_aloadn K 0 rfl rfl 1 dX5_asked_0 rfl ?_
  refine gx_ldcs K hK 7 3 rfl dX5_asked_1 rfl ?_
  refine gx_call K hK hsh 6 (ctx_x5_is P I a 7 ha (by decide)) (lw_V q553 q555 qs7 q163 q556) wd_x5_is ha rfl (Nat.le_of_ble_eq_true rfl) rfl (by decide) rfl (Nat.le_of_ble_eq_true rfl) dX5_asked_3 rfl (fun r1 hr2 => ?_)
  refine g_if_eq K 9 13 dX5_asked_6 rfl (by decide) (fun _ => ?_) (fun _ => ?_)
  · refine g_aloadn K 0 rfl rfl 14 dX5_asked_13 rfl ?_
    refine gx_ldcs K hK 8 16 rfl dX5_asked_14 rfl ?_
    refine gx_call K hK hsh 19 (ctx_x5_is P I a 8 ha (by decide)) (lw_V q553 q555 qs7 q163 q556) wd_x5_is ha rfl (Nat.le_of_ble_eq_true rfl) rfl (by decide) rfl (Nat.le_of_ble_eq_true rfl) dX5_asked_16 rfl (fun r3 hr4 => ?_)
    refine g_if_eq K 22 26 dX5_asked_19 rfl (by decide) (fun _ => ?_) (fun _ => ?_)
    · refine g_aloadn K 0 rfl rfl 27 dX5_asked_26 rfl ?_
      refine gx_ldcs K hK 9 29 rfl dX5_asked_27 rfl ?_
      refine gx_call K hK hsh 32 (ctx_x5_is P I a 9 ha (by decide)) (lw_V q553 q555 qs7 q163 q556) wd_x5_is ha rfl (Nat.le_of_ble_eq_true rfl) rfl (by decide) rfl (Nat.le_of_ble_eq_true rfl) dX5_asked_29 rfl (fun r5 hr6 => ?_)
      refine g_if_eq K 35 39 dX5_asked_32 rfl (by decide) (fun _ => ?_) (fun _ => ?_)
      · refine g_aloadn K 0 rfl rfl 40 dX5_asked_39 rfl ?_
        refine gx_ldcs K hK 10 42 rfl dX5_asked_40 rfl ?_
        refine gx_call K hK hsh 45 (ctx_x5_is P I a 10 ha (by decide)) (lw_V q553 q555 qs7 q163 q556) wd_x5_is ha rfl (Nat.le_of_ble_eq_true rfl) rfl (by decide) rfl (Nat.le_of_ble_eq_true rfl) dX5_asked_42 rfl (fun r7 hr8 => ?_)
        refine g_if_eq K 48 52 dX5_asked_45 rfl (by decide) (fun _ => ?_) (fun _ => ?_)
        · refine g_aloadn K 0 rfl rfl 53 dX5_asked_52 rfl ?_
          refine gx_ldcs K hK 11 55 rfl dX5_asked_53 rfl ?_
          refine gx_call K hK hsh 58 (ctx_x5_is P I a 11 ha (by decide)) (lw_V q553 q555 qs7 q163 q556) wd_x5_is ha rfl (Nat.le_of_ble_eq_true rfl) rfl (by decide) rfl (Nat.le_of_ble_eq_true rfl) dX5_asked_55 rfl (fun r9 hr10 => ?_)
          refine g_if_eq K 61 65 dX5_asked_58 rfl (by decide) (fun _ => ?_) (fun _ => ?_)
          · refine g_aloadn K 0 rfl rfl 66 dX5_asked_65 rfl ?_
            refine gx_ldcs K hK 12 68 rfl dX5_asked_66 rfl ?_
            refine gx_call K hK hsh 71 (ctx_x5_is P I a 12 ha (by decide)) (lw_V q553 q555 qs7 q163 q556) wd_x5_is ha rfl (Nat.le_of_ble_eq_true rfl) rfl (by decide) rfl (Nat.le_of_ble_eq_true rfl) dX5_asked_68 rfl (fun r11 hr12 => ?_)
            refine g_if_eq K 74 78 dX5_asked_71 rfl (by decide) (fun _ => ?_) (fun _ => ?_)
            · refine g_aloadn K 0 rfl rfl 79 dX5_asked_78 rfl ?_
              refine gx_ldcs K hK 13 81 rfl dX5_asked_79 rfl ?_
              refine gx_call K hK hsh 84 (ctx_x5_is P I a 13 ha (by decide)) (lw_V q553 q555 qs7 q163 q556) wd_x5_is ha rfl (Nat.le_of_ble_eq_true rfl) rfl (by decide) rfl (Nat.le_of_ble_eq_true rfl) dX5_asked_81 rfl (fun r13 hr14 => ?_)
              refine g_if_eq K 87 91 dX5_asked_84 rfl (by decide) (fun _ => ?_) (fun _ => ?_)
              · refine g_aloadn K 0 rfl rfl 92 dX5_asked_91 rfl ?_
                refine gx_ldcs K hK 14 94 rfl dX5_asked_92 rfl ?_
                refine gx_call K hK hsh 97 (ctx_x5_is P I a 14 ha (by decide)) (lw_V q553 q555 qs7 q163 q556) wd_x5_is ha rfl (Nat.le_of_ble_eq_true rfl) rfl (by decide) rfl (Nat.le_of_ble_eq_true rfl) dX5_asked_94 rfl (fun r15 hr16 => ?_)
                refine g_if_eq K 100 104 dX5_asked_97 rfl (by decide) (fun _ => ?_) (fun _ => ?_)
                · refine g_aloadn K 0 rfl rfl 105 dX5_asked_104 rfl ?_
                  refine gx_ldcs K hK 15 107 rfl dX5_asked_105 rfl ?_
                  refine gx_call K hK hsh 110 (ctx_x5_is P I a 15 ha (by decide)) (lw_V q553 q555 qs7 q163 q556) wd_x5_is ha rfl (Nat.le_of_ble_eq_true rfl) rfl (by decide) rfl (Nat.le_of_ble_eq_true rfl) dX5_asked_107 rfl (fun r17 hr18 => ?_)
                  refine g_if_eq K 113 117 dX5_asked_110 rfl (by decide) (fun _ => ?_) (fun _ => ?_)
                  · refine g_aloadn K 0 rfl rfl 118 dX5_asked_117 rfl ?_
                    refine gx_ldcs K hK 16 120 rfl dX5_asked_118 rfl ?_
                    refine gx_call K hK hsh 123 (ctx_x5_is P I a 16 ha (by decide)) (lw_V q553 q555 qs7 q163 q556) wd_x5_is ha rfl (Nat.le_of_ble_eq_true rfl) rfl (by decide) rfl (Nat.le_of_ble_eq_true rfl) dX5_asked_120 rfl (fun r19 hr20 => ?_)
                    refine g_if_eq K 126 130 dX5_asked_123 rfl (by decide) (fun _ => ?_) (fun _ => ?_)
                    · refine g_aloadn K 0 rfl rfl 131 dX5_asked_130 rfl ?_
                      refine gx_ldcs K hK 17 133 rfl dX5_asked_131 rfl ?_
                      refine gx_call K hK hsh 136 (ctx_x5_is P I a 17 ha (by decide)) (lw_V q553 q555 qs7 q163 q556) wd_x5_is ha rfl (Nat.le_of_ble_eq_true rfl) rfl (by decide) rfl (Nat.le_of_ble_eq_true rfl) dX5_asked_133 rfl (fun r21 hr22 => ?_)
                      refine g_if_eq K 139 143 dX5_asked_136 rfl (by decide) (fun _ => ?_) (fun _ => ?_)
                      · refine g_aloadn K 0 rfl rfl 144 dX5_asked_143 rfl ?_
                        refine gx_ldcs K hK 18 146 rfl dX5_asked_144 rfl ?_
                        refine gx_call K hK hsh 149 (ctx_x5_is P I a 18 ha (by decide)) (lw_V q553 q555 qs7 q163 q556) wd_x5_is ha rfl (Nat.le_of_ble_eq_true rfl) rfl (by decide) rfl (Nat.le_of_ble_eq_true rfl) dX5_asked_146 rfl (fun r23 hr24 => ?_)
                        refine g_if_eq K 152 158 dX5_asked_149 rfl (by decide) (fun _ => ?_) (fun _ => ?_)
                        · refine g_iconst K (nI 1) ic_1 159 dX5_asked_158 rfl ?_
                          exact gx_iret K hK hsh hr hlk dX5_asked_159 rfl
                        · refine g_sipush K (nI 191) sp_191 155 dX5_asked_152 rfl ?_
                          refine g_goto K 159 dX5_asked_155 (by decide) ?_
                          exact gx_iret K hK hsh hr hlk dX5_asked_159 rfl
                      · refine g_sipush K (nI 190) sp_190 142 dX5_asked_139 rfl ?_
                        exact gx_iret K hK hsh hr hlk dX5_asked_142 rfl
                    · refine g_sipush K (nI 189) sp_189 129 dX5_asked_126 rfl ?_
                      exact gx_iret K hK hsh hr hlk dX5_asked_129 rfl
                  · refine g_sipush K (nI 188) sp_188 116 dX5_asked_113 rfl ?_
                    exact gx_iret K hK hsh hr hlk dX5_asked_116 rfl
                · refine g_sipush K (nI 187) sp_187 103 dX5_asked_100 rfl ?_
                  exact gx_iret K hK hsh hr hlk dX5_asked_103 rfl
              · refine g_sipush K (nI 186) sp_186 90 dX5_asked_87 rfl ?_
                exact gx_iret K hK hsh hr hlk dX5_asked_90 rfl
            · refine g_sipush K (nI 185) sp_185 77 dX5_asked_74 rfl ?_
              exact gx_iret K hK hsh hr hlk dX5_asked_77 rfl
          · refine g_sipush K (nI 184) sp_184 64 dX5_asked_61 rfl ?_
            exact gx_iret K hK hsh hr hlk dX5_asked_64 rfl
        · refine g_sipush K (nI 183) sp_183 51 dX5_asked_48 rfl ?_
          exact gx_iret K hK hsh hr hlk dX5_asked_51 rfl
      · refine g_sipush K (nI 182) sp_182 38 dX5_asked_35 rfl ?_
        exact gx_iret K hK hsh hr hlk dX5_asked_38 rfl
    · refine g_sipush K (nI 181) sp_181 25 dX5_asked_22 rfl ?_
      exact gx_iret K hK hsh hr hlk dX5_asked_25 rfl
  · refine g_sipush K (nI 180) sp_180 12 dX5_asked_9 rfl ?_
    exact gx_iret K hK hsh hr hlk dX5_asked_12 rfl
/-- GingerRents$Reader.lawWord()I -/
def x5_lawWord (I : Mem) (z a : Nat) : Option (Int32) :=
  (x5_is I z a 0).bind fun r1 =>
  if (bI r1) = 0 then
  (x5_is I z a 1).bind fun r3 =>
  if (bI r3) = 0 then
  (x5_is I z a 2).bind fun r5 =>
  if (bI r5) = 0 then
  (x5_is I z a 3).bind fun r7 =>
  if (bI r7) = 0 then
  (x5_is I z a 4).bind fun r9 =>
  if (bI r9) = 0 then
  (x5_is I z a 5).bind fun r11 =>
  if (bI r11) = 0 then
  (x5_is I z a 6).bind fun r13 =>
  if (bI r13) = 0 then
  (x5_asked I z a).bind fun r15 =>
  some r15
  else
  some (nI 9)
  else
  some (nI 8)
  else
  some (nI 7)
  else
  some (nI 6)
  else
  some (nI 5)
  else
  some (nI 4)
  else
  some (nI 3)
theorem wd_x5_lawWord : yX5_lawWord.cls = RX5 ∧ yX5_lawWord.cls ≠ "java/lang/invoke/MethodHandle" ∧ yX5_lawWord.cls ≠ "java/lang/invoke/VarHandle" ∧ (parseMethodDescriptor yX5_lawWord.desc).map (fun d => d.parameters.length) = some 0 := by decide +kernel
set_option maxRecDepth 100000 in
theorem ctx_x5_lawWord {cs : Cs} {z : Nat} {kd : Kd} (P : Ptr) (I : Mem) (a : Nat) (ha : kd a = (5, 0, 0)) : CtX cs z kd yX5_lawWord cX5_lawWord 1 (some .int) 6 128 [.ref a] (P, I) (fun r => (some (.int r), (P, I))) (x5_lawWord I z a) := by
  refine CtX.of RX5 (by decide) rfl (Nat.le_of_ble_eq_true rfl) ?_
  intro l D sz p e s m args below meth c hsh K hr hlk hK
  refine g_sub (ls' := [(0, .ref a)]) [0] rfl ?_
  unfold x5_lawWord
  refine g_aloadn K 0 rfl rfl 1 dX5_lawWord_0 rfl ?_
  refine gx_ldcs K hK 0 3 rfl dX5_lawWord_1 rfl ?_
  refine gx_call K hK hsh 6 (ctx_x5_is P I a 0 ha (by decide)) (lw_V q553 q555 qs7 q163 q556) wd_x5_is ha rfl (Nat.le_of_ble_eq_true rfl) rfl (by decide) rfl (Nat.le_of_ble_eq_true rfl) dX5_lawWord_3 rfl (fun r1 hr2 => ?_)
  refine g_if_eq K 9 11 dX5_lawWord_6 rfl (by decide) (fun _ => ?_) (fun _ => ?_)
  · refine g_aloadn K 0 rfl rfl 12 dX5_lawWord_11 rfl ?_
    refine gx_ldcs K hK 1 14 rfl dX5_lawWord_12 rfl ?_
    refine gx_call K hK hsh 17 (ctx_x5_is P I a 1 ha (by decide)) (lw_V q553 q555 qs7 q163 q556) wd_x5_is ha rfl (Nat.le_of_ble_eq_true rfl) rfl (by decide) rfl (Nat.le_of_ble_eq_true rfl) dX5_lawWord_14 rfl (fun r3 hr4 => ?_)
    refine g_if_eq K 20 22 dX5_lawWord_17 rfl (by decide) (fun _ => ?_) (fun _ => ?_)
    · refine g_aloadn K 0 rfl rfl 23 dX5_lawWord_22 rfl ?_
      refine gx_ldcs K hK 2 25 rfl dX5_lawWord_23 rfl ?_
      refine gx_call K hK hsh 28 (ctx_x5_is P I a 2 ha (by decide)) (lw_V q553 q555 qs7 q163 q556) wd_x5_is ha rfl (Nat.le_of_ble_eq_true rfl) rfl (by decide) rfl (Nat.le_of_ble_eq_true rfl) dX5_lawWord_25 rfl (fun r5 hr6 => ?_)
      refine g_if_eq K 31 33 dX5_lawWord_28 rfl (by decide) (fun _ => ?_) (fun _ => ?_)
      · refine g_aloadn K 0 rfl rfl 34 dX5_lawWord_33 rfl ?_
        refine gx_ldcs K hK 3 36 rfl dX5_lawWord_34 rfl ?_
        refine gx_call K hK hsh 39 (ctx_x5_is P I a 3 ha (by decide)) (lw_V q553 q555 qs7 q163 q556) wd_x5_is ha rfl (Nat.le_of_ble_eq_true rfl) rfl (by decide) rfl (Nat.le_of_ble_eq_true rfl) dX5_lawWord_36 rfl (fun r7 hr8 => ?_)
        refine g_if_eq K 42 45 dX5_lawWord_39 rfl (by decide) (fun _ => ?_) (fun _ => ?_)
        · refine g_aloadn K 0 rfl rfl 46 dX5_lawWord_45 rfl ?_
          refine gx_ldcs K hK 4 48 rfl dX5_lawWord_46 rfl ?_
          refine gx_call K hK hsh 51 (ctx_x5_is P I a 4 ha (by decide)) (lw_V q553 q555 qs7 q163 q556) wd_x5_is ha rfl (Nat.le_of_ble_eq_true rfl) rfl (by decide) rfl (Nat.le_of_ble_eq_true rfl) dX5_lawWord_48 rfl (fun r9 hr10 => ?_)
          refine g_if_eq K 54 57 dX5_lawWord_51 rfl (by decide) (fun _ => ?_) (fun _ => ?_)
          · refine g_aloadn K 0 rfl rfl 58 dX5_lawWord_57 rfl ?_
            refine gx_ldcs K hK 5 60 rfl dX5_lawWord_58 rfl ?_
            refine gx_call K hK hsh 63 (ctx_x5_is P I a 5 ha (by decide)) (lw_V q553 q555 qs7 q163 q556) wd_x5_is ha rfl (Nat.le_of_ble_eq_true rfl) rfl (by decide) rfl (Nat.le_of_ble_eq_true rfl) dX5_lawWord_60 rfl (fun r11 hr12 => ?_)
            refine g_if_eq K 66 69 dX5_lawWord_63 rfl (by decide) (fun _ => ?_) (fun _ => ?_)
            · refine g_aloadn K 0 rfl rfl 70 dX5_lawWord_69 rfl ?_
              refine gx_ldcs K hK 6 72 rfl dX5_lawWord_70 rfl ?_
              refine gx_call K hK hsh 75 (ctx_x5_is P I a 6 ha (by decide)) (lw_V q553 q555 qs7 q163 q556) wd_x5_is ha rfl (Nat.le_of_ble_eq_true rfl) rfl (by decide) rfl (Nat.le_of_ble_eq_true rfl) dX5_lawWord_72 rfl (fun r13 hr14 => ?_)
              refine g_if_eq K 78 83 dX5_lawWord_75 rfl (by decide) (fun _ => ?_) (fun _ => ?_)
              · refine g_aloadn K 0 rfl rfl 84 dX5_lawWord_83 rfl ?_
                refine gx_call K hK hsh 87 (ctx_x5_asked P I a ha) (lw_V q611 q613 qs8 q163 q614) wd_x5_asked ha rfl (Nat.le_of_ble_eq_true rfl) rfl (by decide) rfl (Nat.le_of_ble_eq_true rfl) dX5_lawWord_84 rfl (fun r15 hr16 => ?_)
                exact gx_iret K hK hsh hr hlk dX5_lawWord_87 rfl
              · refine g_bipush K (nI 9) bp_9 80 dX5_lawWord_78 rfl ?_
                refine g_goto K 87 dX5_lawWord_80 (by decide) ?_
                exact gx_iret K hK hsh hr hlk dX5_lawWord_87 rfl
            · refine g_bipush K (nI 8) bp_8 68 dX5_lawWord_66 rfl ?_
              exact gx_iret K hK hsh hr hlk dX5_lawWord_68 rfl
          · refine g_bipush K (nI 7) bp_7 56 dX5_lawWord_54 rfl ?_
            exact gx_iret K hK hsh hr hlk dX5_lawWord_56 rfl
        · refine g_bipush K (nI 6) bp_6 44 dX5_lawWord_42 rfl ?_
          exact gx_iret K hK hsh hr hlk dX5_lawWord_44 rfl
      · refine g_iconst K (nI 5) ic_5 32 dX5_lawWord_31 rfl ?_
        exact gx_iret K hK hsh hr hlk dX5_lawWord_32 rfl
    · refine g_iconst K (nI 4) ic_4 21 dX5_lawWord_20 rfl ?_
      exact gx_iret K hK hsh hr hlk dX5_lawWord_21 rfl
  · refine g_iconst K (nI 3) ic_3 10 dX5_lawWord_9 rfl ?_
    exact gx_iret K hK hsh hr hlk dX5_lawWord_10 rfl
/-- GingerRents$Reader.officeWord()I -/
def x5_officeWord (I : Mem) (z a : Nat) : Option (Int32) :=
  (x5_is I z a 19).bind fun r1 =>
  if (bI r1) = 0 then
  (x5_is I z a 21).bind fun r3 =>
  if (bI r3) = 0 then
  (x5_is I z a 22).bind fun r5 =>
  if (bI r5) = 0 then
  (x5_is I z a 23).bind fun r7 =>
  if (bI r7) = 0 then
  (x5_is I z a 24).bind fun r9 =>
  if (bI r9) = 0 then
  some (nI 1)
  else
  some (nI 17)
  else
  some (nI 16)
  else
  some (nI 15)
  else
  some (nI 14)
  else
  some (nI 10)
theorem wd_x5_officeWord : yX5_officeWord.cls = RX5 ∧ yX5_officeWord.cls ≠ "java/lang/invoke/MethodHandle" ∧ yX5_officeWord.cls ≠ "java/lang/invoke/VarHandle" ∧ (parseMethodDescriptor yX5_officeWord.desc).map (fun d => d.parameters.length) = some 0 := by decide +kernel
set_option maxRecDepth 100000 in
theorem ctx_x5_officeWord {cs : Cs} {z : Nat} {kd : Kd} (P : Ptr) (I : Mem) (a : Nat) (ha : kd a = (5, 0, 0)) : CtX cs z kd yX5_officeWord cX5_officeWord 1 (some .int) 5 108 [.ref a] (P, I) (fun r => (some (.int r), (P, I))) (x5_officeWord I z a) := by
  refine CtX.of RX5 (by decide) rfl (Nat.le_of_ble_eq_true rfl) ?_
  intro l D sz p e s m args below meth c hsh K hr hlk hK
  refine g_sub (ls' := [(0, .ref a)]) [0] rfl ?_
  unfold x5_officeWord
  refine g_aloadn K 0 rfl rfl 1 dX5_officeWord_0 rfl ?_
  refine gx_ldcs K hK 19 3 rfl dX5_officeWord_1 rfl ?_
  refine gx_call K hK hsh 6 (ctx_x5_is P I a 19 ha (by decide)) (lw_V q553 q555 qs7 q163 q556) wd_x5_is ha rfl (Nat.le_of_ble_eq_true rfl) rfl (by decide) rfl (Nat.le_of_ble_eq_true rfl) dX5_officeWord_3 rfl (fun r1 hr2 => ?_)
  refine g_if_eq K 9 12 dX5_officeWord_6 rfl (by decide) (fun _ => ?_) (fun _ => ?_)
  · refine g_aloadn K 0 rfl rfl 13 dX5_officeWord_12 rfl ?_
    refine gx_ldcs K hK 21 15 rfl dX5_officeWord_13 rfl ?_
    refine gx_call K hK hsh 18 (ctx_x5_is P I a 21 ha (by decide)) (lw_V q553 q555 qs7 q163 q556) wd_x5_is ha rfl (Nat.le_of_ble_eq_true rfl) rfl (by decide) rfl (Nat.le_of_ble_eq_true rfl) dX5_officeWord_15 rfl (fun r3 hr4 => ?_)
    refine g_if_eq K 21 24 dX5_officeWord_18 rfl (by decide) (fun _ => ?_) (fun _ => ?_)
    · refine g_aloadn K 0 rfl rfl 25 dX5_officeWord_24 rfl ?_
      refine gx_ldcs K hK 22 27 rfl dX5_officeWord_25 rfl ?_
      refine gx_call K hK hsh 30 (ctx_x5_is P I a 22 ha (by decide)) (lw_V q553 q555 qs7 q163 q556) wd_x5_is ha rfl (Nat.le_of_ble_eq_true rfl) rfl (by decide) rfl (Nat.le_of_ble_eq_true rfl) dX5_officeWord_27 rfl (fun r5 hr6 => ?_)
      refine g_if_eq K 33 36 dX5_officeWord_30 rfl (by decide) (fun _ => ?_) (fun _ => ?_)
      · refine g_aloadn K 0 rfl rfl 37 dX5_officeWord_36 rfl ?_
        refine gx_ldcs K hK 23 39 rfl dX5_officeWord_37 rfl ?_
        refine gx_call K hK hsh 42 (ctx_x5_is P I a 23 ha (by decide)) (lw_V q553 q555 qs7 q163 q556) wd_x5_is ha rfl (Nat.le_of_ble_eq_true rfl) rfl (by decide) rfl (Nat.le_of_ble_eq_true rfl) dX5_officeWord_39 rfl (fun r7 hr8 => ?_)
        refine g_if_eq K 45 48 dX5_officeWord_42 rfl (by decide) (fun _ => ?_) (fun _ => ?_)
        · refine g_aloadn K 0 rfl rfl 49 dX5_officeWord_48 rfl ?_
          refine gx_ldcs K hK 24 51 rfl dX5_officeWord_49 rfl ?_
          refine gx_call K hK hsh 54 (ctx_x5_is P I a 24 ha (by decide)) (lw_V q553 q555 qs7 q163 q556) wd_x5_is ha rfl (Nat.le_of_ble_eq_true rfl) rfl (by decide) rfl (Nat.le_of_ble_eq_true rfl) dX5_officeWord_51 rfl (fun r9 hr10 => ?_)
          refine g_if_eq K 57 62 dX5_officeWord_54 rfl (by decide) (fun _ => ?_) (fun _ => ?_)
          · refine g_iconst K (nI 1) ic_1 63 dX5_officeWord_62 rfl ?_
            exact gx_iret K hK hsh hr hlk dX5_officeWord_63 rfl
          · refine g_bipush K (nI 17) bp_17 59 dX5_officeWord_57 rfl ?_
            refine g_goto K 63 dX5_officeWord_59 (by decide) ?_
            exact gx_iret K hK hsh hr hlk dX5_officeWord_63 rfl
        · refine g_bipush K (nI 16) bp_16 47 dX5_officeWord_45 rfl ?_
          exact gx_iret K hK hsh hr hlk dX5_officeWord_47 rfl
      · refine g_bipush K (nI 15) bp_15 35 dX5_officeWord_33 rfl ?_
        exact gx_iret K hK hsh hr hlk dX5_officeWord_35 rfl
    · refine g_bipush K (nI 14) bp_14 23 dX5_officeWord_21 rfl ?_
      exact gx_iret K hK hsh hr hlk dX5_officeWord_23 rfl
  · refine g_bipush K (nI 10) bp_10 11 dX5_officeWord_9 rfl ?_
    exact gx_iret K hK hsh hr hlk dX5_officeWord_11 rfl
/-- GingerRents$Reader.keyword()I -/
def x5_keyword (I : Mem) (z a : Nat) : Option (Int32) :=
  nm (I a 0) fun v1 =>
  if v1 = (nI 0) then
  (x5_lawWord I z a).bind fun r2 =>
  some r2
  else
  if v1 = (nI 1) then
  (x5_is I z a 19).bind fun r5 =>
  if (bI r5) = 0 then
  (x5_is I z a 16).bind fun r7 =>
  if (bI r7) = 0 then
  (x5_is I z a 17).bind fun r9 =>
  if (bI r9) = 0 then
  (x5_is I z a 20).bind fun r11 =>
  if (bI r11) = 0 then
  some (nI 1)
  else
  some (nI 13)
  else
  some (nI 12)
  else
  some (nI 11)
  else
  some (nI 10)
  else
  if v1 = (nI 2) then
  (x5_officeWord I z a).bind fun r14 =>
  some r14
  else
  (x5_is I z a 25).bind fun r17 =>
  if (bI r17) = 0 then
  (x5_is I z a 26).bind fun r19 =>
  if (bI r19) = 0 then
  some (nI 1)
  else
  some (nI 19)
  else
  some (nI 18)
theorem wd_x5_keyword : yX5_keyword.cls = RX5 ∧ yX5_keyword.cls ≠ "java/lang/invoke/MethodHandle" ∧ yX5_keyword.cls ≠ "java/lang/invoke/VarHandle" ∧ (parseMethodDescriptor yX5_keyword.desc).map (fun d => d.parameters.length) = some 0 := by decide +kernel
set_option maxRecDepth 100000 in
theorem ctx_x5_keyword {cs : Cs} {z : Nat} {kd : Kd} (P : Ptr) (I : Mem) (a : Nat) (ha : kd a = (5, 0, 0)) : CtX cs z kd yX5_keyword cX5_keyword 1 (some .int) 7 148 [.ref a] (P, I) (fun r => (some (.int r), (P, I))) (x5_keyword I z a) := by
  refine CtX.of RX5 (by decide) rfl (Nat.le_of_ble_eq_true rfl) ?_
  intro l D sz p e s m args below meth c hsh K hr hlk hK
  refine g_sub (ls' := [(0, .ref a)]) [0] rfl ?_
  unfold x5_keyword
  refine g_aloadn K 0 rfl rfl 1 dX5_keyword_0 rfl ?_
  refine gx_get K hK hsh 0 (v := .int (I a 0)) 4 in_X5 ha rfl (Nat.le_of_ble_eq_true rfl) rfl (by decide) (Or.inl q496) rfl dX5_keyword_1 rfl ?_
  refine g_nm (fun v1 _ => ?_)
  refine g_tcase K (nI 0) 32 dX5_keyword_4 (by decide) (by decide) rfl (by decide) (fun _ => ?_) (fun hx4 => ?_)
  · refine g_aloadn K 0 rfl rfl 33 dX5_keyword_32 rfl ?_
    refine gx_call K hK hsh 36 (ctx_x5_lawWord P I a ha) (lw_V q548 q550 qs6 q163 q551) wd_x5_lawWord ha rfl (Nat.le_of_ble_eq_true rfl) rfl (by decide) rfl (Nat.le_of_ble_eq_true rfl) dX5_keyword_33 rfl (fun r2 hr3 => ?_)
    exact gx_iret K hK hsh hr hlk dX5_keyword_36 rfl
  · refine g_tcase K (nI 1) 37 dX5_keyword_4 (by decide) (by decide) rfl (by decide) (fun _ => ?_) (fun hx13 => ?_)
    · refine g_aloadn K 0 rfl rfl 38 dX5_keyword_37 rfl ?_
      refine gx_ldcs K hK 19 40 rfl dX5_keyword_38 rfl ?_
      refine gx_call K hK hsh 43 (ctx_x5_is P I a 19 ha (by decide)) (lw_V q553 q555 qs7 q163 q556) wd_x5_is ha rfl (Nat.le_of_ble_eq_true rfl) rfl (by decide) rfl (Nat.le_of_ble_eq_true rfl) dX5_keyword_40 rfl (fun r5 hr6 => ?_)
      refine g_if_eq K 46 51 dX5_keyword_43 rfl (by decide) (fun _ => ?_) (fun _ => ?_)
      · refine g_aloadn K 0 rfl rfl 52 dX5_keyword_51 rfl ?_
        refine gx_ldcs K hK 16 54 rfl dX5_keyword_52 rfl ?_
        refine gx_call K hK hsh 57 (ctx_x5_is P I a 16 ha (by decide)) (lw_V q553 q555 qs7 q163 q556) wd_x5_is ha rfl (Nat.le_of_ble_eq_true rfl) rfl (by decide) rfl (Nat.le_of_ble_eq_true rfl) dX5_keyword_54 rfl (fun r7 hr8 => ?_)
        refine g_if_eq K 60 65 dX5_keyword_57 rfl (by decide) (fun _ => ?_) (fun _ => ?_)
        · refine g_aloadn K 0 rfl rfl 66 dX5_keyword_65 rfl ?_
          refine gx_ldcs K hK 17 68 rfl dX5_keyword_66 rfl ?_
          refine gx_call K hK hsh 71 (ctx_x5_is P I a 17 ha (by decide)) (lw_V q553 q555 qs7 q163 q556) wd_x5_is ha rfl (Nat.le_of_ble_eq_true rfl) rfl (by decide) rfl (Nat.le_of_ble_eq_true rfl) dX5_keyword_68 rfl (fun r9 hr10 => ?_)
          refine g_if_eq K 74 79 dX5_keyword_71 rfl (by decide) (fun _ => ?_) (fun _ => ?_)
          · refine g_aloadn K 0 rfl rfl 80 dX5_keyword_79 rfl ?_
            refine gx_ldcs K hK 20 82 rfl dX5_keyword_80 rfl ?_
            refine gx_call K hK hsh 85 (ctx_x5_is P I a 20 ha (by decide)) (lw_V q553 q555 qs7 q163 q556) wd_x5_is ha rfl (Nat.le_of_ble_eq_true rfl) rfl (by decide) rfl (Nat.le_of_ble_eq_true rfl) dX5_keyword_82 rfl (fun r11 hr12 => ?_)
            refine g_if_eq K 88 93 dX5_keyword_85 rfl (by decide) (fun _ => ?_) (fun _ => ?_)
            · refine g_iconst K (nI 1) ic_1 94 dX5_keyword_93 rfl ?_
              exact gx_iret K hK hsh hr hlk dX5_keyword_94 rfl
            · refine g_bipush K (nI 13) bp_13 90 dX5_keyword_88 rfl ?_
              refine g_goto K 94 dX5_keyword_90 (by decide) ?_
              exact gx_iret K hK hsh hr hlk dX5_keyword_94 rfl
          · refine g_bipush K (nI 12) bp_12 76 dX5_keyword_74 rfl ?_
            refine g_goto K 94 dX5_keyword_76 (by decide) ?_
            exact gx_iret K hK hsh hr hlk dX5_keyword_94 rfl
        · refine g_bipush K (nI 11) bp_11 62 dX5_keyword_60 rfl ?_
          refine g_goto K 94 dX5_keyword_62 (by decide) ?_
          exact gx_iret K hK hsh hr hlk dX5_keyword_94 rfl
      · refine g_bipush K (nI 10) bp_10 48 dX5_keyword_46 rfl ?_
        refine g_goto K 94 dX5_keyword_48 (by decide) ?_
        exact gx_iret K hK hsh hr hlk dX5_keyword_94 rfl
    · refine g_tcase K (nI 2) 95 dX5_keyword_4 (by decide) (by decide) rfl (by decide) (fun _ => ?_) (fun hx16 => ?_)
      · refine g_aloadn K 0 rfl rfl 96 dX5_keyword_95 rfl ?_
        refine gx_call K hK hsh 99 (ctx_x5_officeWord P I a ha) (lw_V q629 q631 qs9 q163 q632) wd_x5_officeWord ha rfl (Nat.le_of_ble_eq_true rfl) rfl (by decide) rfl (Nat.le_of_ble_eq_true rfl) dX5_keyword_96 rfl (fun r14 hr15 => ?_)
        exact gx_iret K hK hsh hr hlk dX5_keyword_99 rfl
      · refine g_tdef K 100 dX5_keyword_4 (by have := tne (k := 0) (by decide) hx4; have := tne (k := 1) (by decide) hx13; have := tne (k := 2) (by decide) hx16; omega) (by decide) ?_
        refine g_aloadn K 0 rfl rfl 101 dX5_keyword_100 rfl ?_
        refine gx_ldcs K hK 25 103 rfl dX5_keyword_101 rfl ?_
        refine gx_call K hK hsh 106 (ctx_x5_is P I a 25 ha (by decide)) (lw_V q553 q555 qs7 q163 q556) wd_x5_is ha rfl (Nat.le_of_ble_eq_true rfl) rfl (by decide) rfl (Nat.le_of_ble_eq_true rfl) dX5_keyword_103 rfl (fun r17 hr18 => ?_)
        refine g_if_eq K 109 114 dX5_keyword_106 rfl (by decide) (fun _ => ?_) (fun _ => ?_)
        · refine g_aloadn K 0 rfl rfl 115 dX5_keyword_114 rfl ?_
          refine gx_ldcs K hK 26 117 rfl dX5_keyword_115 rfl ?_
          refine gx_call K hK hsh 120 (ctx_x5_is P I a 26 ha (by decide)) (lw_V q553 q555 qs7 q163 q556) wd_x5_is ha rfl (Nat.le_of_ble_eq_true rfl) rfl (by decide) rfl (Nat.le_of_ble_eq_true rfl) dX5_keyword_117 rfl (fun r19 hr20 => ?_)
          refine g_if_eq K 123 128 dX5_keyword_120 rfl (by decide) (fun _ => ?_) (fun _ => ?_)
          · refine g_iconst K (nI 1) ic_1 129 dX5_keyword_128 rfl ?_
            exact gx_iret K hK hsh hr hlk dX5_keyword_129 rfl
          · refine g_bipush K (nI 19) bp_19 125 dX5_keyword_123 rfl ?_
            refine g_goto K 129 dX5_keyword_125 (by decide) ?_
            exact gx_iret K hK hsh hr hlk dX5_keyword_129 rfl
        · refine g_bipush K (nI 18) bp_18 111 dX5_keyword_109 rfl ?_
          refine g_goto K 129 dX5_keyword_111 (by decide) ?_
          exact gx_iret K hK hsh hr hlk dX5_keyword_129 rfl
/-- GingerRents$Reader.isMark(I)Z -/
def x5_isMark (I : Mem) (z a : Nat) (x1 : Int32) : Option (Bool) :=
  if x1 = (nI 59) then
  some true
  else
  if x1 = (nI 43) then
  some true
  else
  if x1 = (nI 45) then
  some true
  else
  if x1 = (nI 42) then
  some true
  else
  if x1 = (nI 47) then
  some true
  else
  if x1 = (nI 40) then
  some true
  else
  if x1 = (nI 41) then
  some true
  else
  if x1 = (nI 60) then
  some true
  else
  if x1 = (nI 61) then
  some true
  else
  if x1 = (nI 62) then
  some true
  else
  some false
theorem wd_x5_isMark : yX5_isMark.cls = RX5 ∧ yX5_isMark.cls ≠ "java/lang/invoke/MethodHandle" ∧ yX5_isMark.cls ≠ "java/lang/invoke/VarHandle" ∧ (parseMethodDescriptor yX5_isMark.desc).map (fun d => d.parameters.length) = some 1 := by decide +kernel
set_option maxRecDepth 100000 in
theorem ctx_x5_isMark {cs : Cs} {z : Nat} {kd : Kd} (P : Ptr) (I : Mem) (a : Nat) (x1 : Int32) (ha : kd a = (5, 0, 0)) : CtX cs z kd yX5_isMark cX5_isMark 2 (some .boolean) 0 0 [.ref a, .int x1] (P, I) (fun r => (some (.int (bI r)), (P, I))) (x5_isMark I z a x1) := by
  refine CtX.of RX5 (by decide) rfl (Nat.le_of_ble_eq_true rfl) ?_
  intro l D sz p e s m args below meth c hsh K hr hlk hK
  refine g_sub (ls' := [(0, .ref a), (1, .int x1)]) [0, 1] rfl ?_
  unfold x5_isMark
  refine g_iloadn K 1 rfl rfl 1 dX5_isMark_0 rfl ?_
  refine g_bipush K (nI 59) bp_59 3 dX5_isMark_1 rfl ?_
  refine g_icmp_eq K 6 60 dX5_isMark_3 rfl (by decide) (fun _ => ?_) (fun _ => ?_)
  · refine g_iconst K (nI 1) ic_1 61 dX5_isMark_60 rfl ?_
    refine g_goto K 65 dX5_isMark_61 (by decide) ?_
    exact gx_zret K hK hsh hr hlk (b := true) dX5_isMark_65 rfl rfl
  · refine g_iloadn K 1 rfl rfl 7 dX5_isMark_6 rfl ?_
    refine g_bipush K (nI 43) bp_43 9 dX5_isMark_7 rfl ?_
    refine g_icmp_eq K 12 60 dX5_isMark_9 rfl (by decide) (fun _ => ?_) (fun _ => ?_)
    · refine g_iconst K (nI 1) ic_1 61 dX5_isMark_60 rfl ?_
      refine g_goto K 65 dX5_isMark_61 (by decide) ?_
      exact gx_zret K hK hsh hr hlk (b := true) dX5_isMark_65 rfl rfl
    · refine g_iloadn K 1 rfl rfl 13 dX5_isMark_12 rfl ?_
      refine g_bipush K (nI 45) bp_45 15 dX5_isMark_13 rfl ?_
      refine g_icmp_eq K 18 60 dX5_isMark_15 rfl (by decide) (fun _ => ?_) (fun _ => ?_)
      · refine g_iconst K (nI 1) ic_1 61 dX5_isMark_60 rfl ?_
        refine g_goto K 65 dX5_isMark_61 (by decide) ?_
        exact gx_zret K hK hsh hr hlk (b := true) dX5_isMark_65 rfl rfl
      · refine g_iloadn K 1 rfl rfl 19 dX5_isMark_18 rfl ?_
        refine g_bipush K (nI 42) bp_42 21 dX5_isMark_19 rfl ?_
        refine g_icmp_eq K 24 60 dX5_isMark_21 rfl (by decide) (fun _ => ?_) (fun _ => ?_)
        · refine g_iconst K (nI 1) ic_1 61 dX5_isMark_60 rfl ?_
          refine g_goto K 65 dX5_isMark_61 (by decide) ?_
          exact gx_zret K hK hsh hr hlk (b := true) dX5_isMark_65 rfl rfl
        · refine g_iloadn K 1 rfl rfl 25 dX5_isMark_24 rfl ?_
          refine g_bipush K (nI 47) bp_47 27 dX5_isMark_25 rfl ?_
          refine g_icmp_eq K 30 60 dX5_isMark_27 rfl (by decide) (fun _ => ?_) (fun _ => ?_)
          · refine g_iconst K (nI 1) ic_1 61 dX5_isMark_60 rfl ?_
            refine g_goto K 65 dX5_isMark_61 (by decide) ?_
            exact gx_zret K hK hsh hr hlk (b := true) dX5_isMark_65 rfl rfl
          · refine g_iloadn K 1 rfl rfl 31 dX5_isMark_30 rfl ?_
            refine g_bipush K (nI 40) bp_40 33 dX5_isMark_31 rfl ?_
            refine g_icmp_eq K 36 60 dX5_isMark_33 rfl (by decide) (fun _ => ?_) (fun _ => ?_)
            · refine g_iconst K (nI 1) ic_1 61 dX5_isMark_60 rfl ?_
              refine g_goto K 65 dX5_isMark_61 (by decide) ?_
              exact gx_zret K hK hsh hr hlk (b := true) dX5_isMark_65 rfl rfl
            · refine g_iloadn K 1 rfl rfl 37 dX5_isMark_36 rfl ?_
              refine g_bipush K (nI 41) bp_41 39 dX5_isMark_37 rfl ?_
              refine g_icmp_eq K 42 60 dX5_isMark_39 rfl (by decide) (fun _ => ?_) (fun _ => ?_)
              · refine g_iconst K (nI 1) ic_1 61 dX5_isMark_60 rfl ?_
                refine g_goto K 65 dX5_isMark_61 (by decide) ?_
                exact gx_zret K hK hsh hr hlk (b := true) dX5_isMark_65 rfl rfl
              · refine g_iloadn K 1 rfl rfl 43 dX5_isMark_42 rfl ?_
                refine g_bipush K (nI 60) bp_60 45 dX5_isMark_43 rfl ?_
                refine g_icmp_eq K 48 60 dX5_isMark_45 rfl (by decide) (fun _ => ?_) (fun _ => ?_)
                · refine g_iconst K (nI 1) ic_1 61 dX5_isMark_60 rfl ?_
                  refine g_goto K 65 dX5_isMark_61 (by decide) ?_
                  exact gx_zret K hK hsh hr hlk (b := true) dX5_isMark_65 rfl rfl
                · refine g_iloadn K 1 rfl rfl 49 dX5_isMark_48 rfl ?_
                  refine g_bipush K (nI 61) bp_61 51 dX5_isMark_49 rfl ?_
                  refine g_icmp_eq K 54 60 dX5_isMark_51 rfl (by decide) (fun _ => ?_) (fun _ => ?_)
                  · refine g_iconst K (nI 1) ic_1 61 dX5_isMark_60 rfl ?_
                    refine g_goto K 65 dX5_isMark_61 (by decide) ?_
                    exact gx_zret K hK hsh hr hlk (b := true) dX5_isMark_65 rfl rfl
                  · refine g_iloadn K 1 rfl rfl 55 dX5_isMark_54 rfl ?_
                    refine g_bipush K (nI 62) bp_62 57 dX5_isMark_55 rfl ?_
                    refine g_icmp_ne K 60 64 dX5_isMark_57 rfl (by decide) (fun _ => ?_) (fun _ => ?_)
                    · refine g_iconst K (nI 1) ic_1 61 dX5_isMark_60 rfl ?_
                      refine g_goto K 65 dX5_isMark_61 (by decide) ?_
                      exact gx_zret K hK hsh hr hlk (b := true) dX5_isMark_65 rfl rfl
                    · refine g_iconst K (nI 0) ic_0 65 dX5_isMark_64 rfl ?_
                      exact gx_zret K hK hsh hr hlk (b := false) dX5_isMark_65 rfl rfl
/-- GingerRents$Reader.next()V -/
def x5_next (I : Mem) (z a : Nat) : Option (Mem) :=
  jn (fun (j1 : Mem) =>
  nm (up2 j1 a 3 (j1 a 2)) fun I4 =>
  (x5_see I4 z a).bind fun r5 =>
  if r5 = (-1 : Int32) then
  nm (up2 I4 a 4 (nI 0)) fun I54 =>
  some I54
  else
  (x5_isLetter I4 z a).bind fun r7 =>
  if (bI r7) = 0 then
  (x5_isDigit I4 z a).bind fun r9 =>
  if (bI r9) = 0 then
  (x5_see I4 z a).bind fun r11 =>
  (x5_isMark I4 z a r11).bind fun r13 =>
  jn (fun (j15 : Int32) =>
  nm (up2 I4 a 4 j15) fun I18 =>
  nm (up2 I18 a 2 ((I18 a 2) + (nI 1))) fun I19 =>
  some I19) (fun k16 =>
  if (bI r13) = 0 then
  k16 (nI 1)
  else
  (x5_see I4 z a).bind fun r20 =>
  k16 r20)
  else
  nm (up2 I4 a 5 (nI 0)) fun I22 =>
  jn (fun (j23 : Mem) =>
  jn (fun (j26 : Int32) =>
  nm (up2 j23 a 4 j26) fun I29 =>
  some I29) (fun k27 =>
  if (nI 5) ≤ ((j23 a 2) - (j23 a 3)) then
  k27 (nI 1)
  else
  k27 (nI 2))) (fun k24 =>
  lp (fun again31 (j30 : Mem) =>
  (x5_isDigit j30 z a).bind fun r33 =>
  if (bI r33) = 0 then
  k24 j30
  else
  jn (fun (j35 : Mem) =>
  nm (up2 j35 a 2 ((j35 a 2) + (nI 1))) fun I38 =>
  again31 I38) (fun k36 =>
  if ((j30 a 3) + (nI 4)) ≤ (j30 a 2) then
  k36 j30
  else
  (x5_see j30 z a).bind fun r39 =>
  nm (up2 j30 a 5 ((((nI 10) * (j30 a 5)) + r39) - (nI 48))) fun I41 =>
  k36 I41)) fuel I22)
  else
  jn (fun (j42 : Mem) =>
  (x5_keyword j42 z a).bind fun r45 =>
  nm (up2 j42 a 4 r45) fun I47 =>
  some I47) (fun k43 =>
  lp (fun again49 (j48 : Mem) =>
  (x5_isLetter j48 z a).bind fun r51 =>
  if (bI r51) = 0 then
  k43 j48
  else
  nm (up2 j48 a 2 ((j48 a 2) + (nI 1))) fun I53 =>
  again49 I53) fuel I4)) (fun k2 =>
  lp (fun again56 (j55 : Mem) =>
  (x5_see j55 z a).bind fun r58 =>
  jn (fun (j60 : Unit) =>
  nm (up2 j55 a 2 ((j55 a 2) + (nI 1))) fun I63 =>
  again56 I63) (fun k61 =>
  if r58 = (nI 32) then
  k61 ()
  else
  (x5_see j55 z a).bind fun r64 =>
  if r64 = (nI 10) then
  k61 ()
  else
  k2 j55)) fuel I)
theorem wd_x5_next : yX5_next.cls = RX5 ∧ yX5_next.cls ≠ "java/lang/invoke/MethodHandle" ∧ yX5_next.cls ≠ "java/lang/invoke/VarHandle" ∧ (parseMethodDescriptor yX5_next.desc).map (fun d => d.parameters.length) = some 0 := by decide +kernel
set_option maxRecDepth 100000 in
theorem ctx_x5_next {cs : Cs} {z : Nat} {kd : Kd} (P : Ptr) (I : Mem) (a : Nat) (ha : kd a = (5, 0, 0)) : CtX cs z kd yX5_next cX5_next 1 none 8 168 [.ref a] (P, I) (fun r => (none, (P, r))) (x5_next I z a) := by
  refine CtX.of RX5 (by decide) rfl (Nat.le_of_ble_eq_true rfl) ?_
  intro l D sz p e s m args below meth c hsh K hr hlk hK
  refine g_sub (ls' := [(0, .ref a)]) [0] rfl ?_
  unfold x5_next
  refine g_jn (head := 31) (L := fun j1 => [(0, .ref a)]) (sf := fun j1 => []) (mf := fun j1 => (P, j1)) (fun j1 => ?_) (fun k2 h3 => ?_)
  · try dsimp only
    refine g_aloadn K 0 rfl rfl 32 dX5_next_31 rfl ?_
    refine g_aloadn K 0 rfl rfl 33 dX5_next_32 rfl ?_
    refine gx_get K hK hsh 2 (v := .int (j1 a 2)) 36 in_X5 ha rfl (Nat.le_of_ble_eq_true rfl) rfl (by decide) (Or.inl q498) rfl dX5_next_33 rfl ?_
    refine gx_put K hK hsh 3 (ty := .int) 39 in_X5 tyX5 tyX5_ok nmX5 ha rfl rfl (Nat.le_of_ble_eq_true rfl) rfl (by decide) (Or.inl q499) rfl (by decide +kernel) rfl rfl (Nat.le_of_ble_eq_true rfl) dX5_next_36 rfl (fun I4 _ => ?_)
    refine g_aloadn K 0 rfl rfl 40 dX5_next_39 rfl ?_
    refine gx_call K hK hsh 43 (ctx_x5_see P I4 a ha) (lw_V q535 q537 qs3 q163 q538) wd_x5_see ha rfl (Nat.le_of_ble_eq_true rfl) rfl (by decide) rfl (Nat.le_of_ble_eq_true rfl) dX5_next_40 rfl (fun r5 hr6 => ?_)
    refine g_iconst K (-1 : Int32) ic_m1 44 dX5_next_43 rfl ?_
    refine g_icmp_ne K 47 55 dX5_next_44 rfl (by decide) (fun _ => ?_) (fun _ => ?_)
    · refine g_aloadn K 0 rfl rfl 48 dX5_next_47 rfl ?_
      refine g_iconst K (nI 0) ic_0 49 dX5_next_48 rfl ?_
      refine gx_put K hK hsh 4 (ty := .int) 52 in_X5 tyX5 tyX5_ok nmX5 ha rfl rfl (Nat.le_of_ble_eq_true rfl) rfl (by decide) (Or.inl q500) rfl (by decide +kernel) rfl rfl (Nat.le_of_ble_eq_true rfl) dX5_next_49 rfl (fun I54 _ => ?_)
      refine g_goto K 215 dX5_next_52 (by decide) ?_
      exact gx_vret K hK hsh hr hlk dX5_next_215 rfl
    · refine g_aloadn K 0 rfl rfl 56 dX5_next_55 rfl ?_
      refine gx_call K hK hsh 59 (ctx_x5_isLetter P I4 a ha) (lw_V q539 q541 qs4 q163 q542) wd_x5_isLetter ha rfl (Nat.le_of_ble_eq_true rfl) rfl (by decide) rfl (Nat.le_of_ble_eq_true rfl) dX5_next_56 rfl (fun r7 hr8 => ?_)
      refine g_if_eq K 62 93 dX5_next_59 rfl (by decide) (fun _ => ?_) (fun _ => ?_)
      · refine g_aloadn K 0 rfl rfl 94 dX5_next_93 rfl ?_
        refine gx_call K hK hsh 97 (ctx_x5_isDigit P I4 a ha) (lw_V q639 q641 qs10 q163 q642) wd_x5_isDigit ha rfl (Nat.le_of_ble_eq_true rfl) rfl (by decide) rfl (Nat.le_of_ble_eq_true rfl) dX5_next_94 rfl (fun r9 hr10 => ?_)
        refine g_if_eq K 100 182 dX5_next_97 rfl (by decide) (fun _ => ?_) (fun _ => ?_)
        · refine g_aloadn K 0 rfl rfl 183 dX5_next_182 rfl ?_
          refine g_aloadn K 0 rfl rfl 184 dX5_next_183 rfl ?_
          refine g_aloadn K 0 rfl rfl 185 dX5_next_184 rfl ?_
          refine gx_call K hK hsh 188 (ctx_x5_see P I4 a ha) (lw_V q535 q537 qs3 q163 q538) wd_x5_see ha rfl (Nat.le_of_ble_eq_true rfl) rfl (by decide) rfl (Nat.le_of_ble_eq_true rfl) dX5_next_185 rfl (fun r11 hr12 => ?_)
          refine gx_call K hK hsh 191 (ctx_x5_isMark P I4 a r11 ha) (lw_V q643 q645 qs11 q163 q646) wd_x5_isMark ha rfl (Nat.le_of_ble_eq_true rfl) rfl (by decide) rfl (Nat.le_of_ble_eq_true rfl) dX5_next_188 rfl (fun r13 hr14 => ?_)
          refine g_jn (head := 202) (L := fun j15 => [(0, .ref a)]) (sf := fun j15 => [.int j15, .ref a]) (mf := fun j15 => (P, I4)) (fun j15 => ?_) (fun k16 h17 => ?_)
          · try dsimp only
            refine gx_put K hK hsh 4 (ty := .int) 205 in_X5 tyX5 tyX5_ok nmX5 ha rfl rfl (Nat.le_of_ble_eq_true rfl) rfl (by decide) (Or.inl q500) rfl (by decide +kernel) rfl rfl (Nat.le_of_ble_eq_true rfl) dX5_next_202 rfl (fun I18 _ => ?_)
            refine g_aloadn K 0 rfl rfl 206 dX5_next_205 rfl ?_
            refine g_dup K rfl 207 dX5_next_206 rfl ?_
            refine gx_get K hK hsh 2 (v := .int (I18 a 2)) 210 in_X5 ha rfl (Nat.le_of_ble_eq_true rfl) rfl (by decide) (Or.inl q498) rfl dX5_next_207 rfl ?_
            refine g_iconst K (nI 1) ic_1 211 dX5_next_210 rfl ?_
            refine g_iadd K 212 dX5_next_211 rfl ?_
            refine gx_put K hK hsh 2 (ty := .int) 215 in_X5 tyX5 tyX5_ok nmX5 ha rfl rfl (Nat.le_of_ble_eq_true rfl) rfl (by decide) (Or.inl q498) rfl (by decide +kernel) rfl rfl (Nat.le_of_ble_eq_true rfl) dX5_next_212 rfl (fun I19 _ => ?_)
            exact gx_vret K hK hsh hr hlk dX5_next_215 rfl
          · refine g_if_eq K 194 201 dX5_next_191 rfl (by decide) (fun _ => ?_) (fun _ => ?_)
            · refine g_iconst K (nI 1) ic_1 202 dX5_next_201 rfl ?_
              exact h17 (nI 1)
            · refine g_aloadn K 0 rfl rfl 195 dX5_next_194 rfl ?_
              refine gx_call K hK hsh 198 (ctx_x5_see P I4 a ha) (lw_V q535 q537 qs3 q163 q538) wd_x5_see ha rfl (Nat.le_of_ble_eq_true rfl) rfl (by decide) rfl (Nat.le_of_ble_eq_true rfl) dX5_next_195 rfl (fun r20 hr21 => ?_)
              refine g_goto K 202 dX5_next_198 (by decide) ?_
              exact h17 r20
        · refine g_aloadn K 0 rfl rfl 101 dX5_next_100 rfl ?_
          refine g_iconst K (nI 0) ic_0 102 dX5_next_101 rfl ?_
          refine gx_put K hK hsh 5 (ty := .int) 105 in_X5 tyX5 tyX5_ok nmX5 ha rfl rfl (Nat.le_of_ble_eq_true rfl) rfl (by decide) (Or.inl q501) rfl (by decide +kernel) rfl rfl (Nat.le_of_ble_eq_true rfl) dX5_next_102 rfl (fun I22 _ => ?_)
          refine g_jn (head := 157) (L := fun j23 => [(0, .ref a)]) (sf := fun j23 => []) (mf := fun j23 => (P, j23)) (fun j23 => ?_) (fun k24 h25 => ?_)
          · try dsimp only
            refine g_aloadn K 0 rfl rfl 158 dX5_next_157 rfl ?_
            refine g_aloadn K 0 rfl rfl 159 dX5_next_158 rfl ?_
            refine gx_get K hK hsh 2 (v := .int (j23 a 2)) 162 in_X5 ha rfl (Nat.le_of_ble_eq_true rfl) rfl (by decide) (Or.inl q498) rfl dX5_next_159 rfl ?_
            refine g_aloadn K 0 rfl rfl 163 dX5_next_162 rfl ?_
            refine gx_get K hK hsh 3 (v := .int (j23 a 3)) 166 in_X5 ha rfl (Nat.le_of_ble_eq_true rfl) rfl (by decide) (Or.inl q499) rfl dX5_next_163 rfl ?_
            refine g_isub K 167 dX5_next_166 rfl ?_
            refine g_iconst K (nI 5) ic_5 168 dX5_next_167 rfl ?_
            refine g_jn (head := 176) (L := fun j26 => [(0, .ref a)]) (sf := fun j26 => [.int j26, .ref a]) (mf := fun j26 => (P, j23)) (fun j26 => ?_) (fun k27 h28 => ?_)
            · try dsimp only
              refine gx_put K hK hsh 4 (ty := .int) 179 in_X5 tyX5 tyX5_ok nmX5 ha rfl rfl (Nat.le_of_ble_eq_true rfl) rfl (by decide) (Or.inl q500) rfl (by decide +kernel) rfl rfl (Nat.le_of_ble_eq_true rfl) dX5_next_176 rfl (fun I29 _ => ?_)
              refine g_goto K 215 dX5_next_179 (by decide) ?_
              exact gx_vret K hK hsh hr hlk dX5_next_215 rfl
            · refine g_icmp_ge K 171 175 dX5_next_168 rfl (by decide) (fun _ => ?_) (fun _ => ?_)
              · refine g_iconst K (nI 1) ic_1 176 dX5_next_175 rfl ?_
                exact h28 (nI 1)
              · refine g_iconst K (nI 2) ic_2 172 dX5_next_171 rfl ?_
                refine g_goto K 176 dX5_next_172 (by decide) ?_
                exact h28 (nI 2)
          · refine g_lp (head := 105) (L := fun j30 => [(0, .ref a)]) (sf := fun j30 => []) (mf := fun j30 => (P, j30)) (fun again31 h32 j30 => ?_) fuel I22
            try dsimp only
            refine g_aloadn K 0 rfl rfl 106 dX5_next_105 rfl ?_
            refine gx_call K hK hsh 109 (ctx_x5_isDigit P j30 a ha) (lw_V q639 q641 qs10 q163 q642) wd_x5_isDigit ha rfl (Nat.le_of_ble_eq_true rfl) rfl (by decide) rfl (Nat.le_of_ble_eq_true rfl) dX5_next_106 rfl (fun r33 hr34 => ?_)
            refine g_if_eq K 112 157 dX5_next_109 rfl (by decide) (fun _ => ?_) (fun _ => ?_)
            · exact h25 j30
            · refine g_aloadn K 0 rfl rfl 113 dX5_next_112 rfl ?_
              refine gx_get K hK hsh 2 (v := .int (j30 a 2)) 116 in_X5 ha rfl (Nat.le_of_ble_eq_true rfl) rfl (by decide) (Or.inl q498) rfl dX5_next_113 rfl ?_
              refine g_aloadn K 0 rfl rfl 117 dX5_next_116 rfl ?_
              refine gx_get K hK hsh 3 (v := .int (j30 a 3)) 120 in_X5 ha rfl (Nat.le_of_ble_eq_true rfl) rfl (by decide) (Or.inl q499) rfl dX5_next_117 rfl ?_
              refine g_iconst K (nI 4) ic_4 121 dX5_next_120 rfl ?_
              refine g_iadd K 122 dX5_next_121 rfl ?_
              refine g_jn (head := 144) (L := fun j35 => [(0, .ref a)]) (sf := fun j35 => []) (mf := fun j35 => (P, j35)) (fun j35 => ?_) (fun k36 h37 => ?_)
              · try dsimp only
                refine g_aloadn K 0 rfl rfl 145 dX5_next_144 rfl ?_
                refine g_dup K rfl 146 dX5_next_145 rfl ?_
                refine gx_get K hK hsh 2 (v := .int (j35 a 2)) 149 in_X5 ha rfl (Nat.le_of_ble_eq_true rfl) rfl (by decide) (Or.inl q498) rfl dX5_next_146 rfl ?_
                refine g_iconst K (nI 1) ic_1 150 dX5_next_149 rfl ?_
                refine g_iadd K 151 dX5_next_150 rfl ?_
                refine gx_put K hK hsh 2 (ty := .int) 154 in_X5 tyX5 tyX5_ok nmX5 ha rfl rfl (Nat.le_of_ble_eq_true rfl) rfl (by decide) (Or.inl q498) rfl (by decide +kernel) rfl rfl (Nat.le_of_ble_eq_true rfl) dX5_next_151 rfl (fun I38 _ => ?_)
                refine g_goto K 105 dX5_next_154 (by decide) ?_
                exact h32 I38
              · refine g_icmp_ge K 125 144 dX5_next_122 rfl (by decide) (fun _ => ?_) (fun _ => ?_)
                · exact h37 j30
                · refine g_aloadn K 0 rfl rfl 126 dX5_next_125 rfl ?_
                  refine g_bipush K (nI 10) bp_10 128 dX5_next_126 rfl ?_
                  refine g_aloadn K 0 rfl rfl 129 dX5_next_128 rfl ?_
                  refine gx_get K hK hsh 5 (v := .int (j30 a 5)) 132 in_X5 ha rfl (Nat.le_of_ble_eq_true rfl) rfl (by decide) (Or.inl q501) rfl dX5_next_129 rfl ?_
                  refine g_imul K 133 dX5_next_132 rfl ?_
                  refine g_aloadn K 0 rfl rfl 134 dX5_next_133 rfl ?_
                  refine gx_call K hK hsh 137 (ctx_x5_see P j30 a ha) (lw_V q535 q537 qs3 q163 q538) wd_x5_see ha rfl (Nat.le_of_ble_eq_true rfl) rfl (by decide) rfl (Nat.le_of_ble_eq_true rfl) dX5_next_134 rfl (fun r39 hr40 => ?_)
                  refine g_iadd K 138 dX5_next_137 rfl ?_
                  refine g_bipush K (nI 48) bp_48 140 dX5_next_138 rfl ?_
                  refine g_isub K 141 dX5_next_140 rfl ?_
                  refine gx_put K hK hsh 5 (ty := .int) 144 in_X5 tyX5 tyX5_ok nmX5 ha rfl rfl (Nat.le_of_ble_eq_true rfl) rfl (by decide) (Or.inl q501) rfl (by decide +kernel) rfl rfl (Nat.le_of_ble_eq_true rfl) dX5_next_141 rfl (fun I41 _ => ?_)
                  exact h37 I41
      · refine g_jn (head := 82) (L := fun j42 => [(0, .ref a)]) (sf := fun j42 => []) (mf := fun j42 => (P, j42)) (fun j42 => ?_) (fun k43 h44 => ?_)
        · try dsimp only
          refine g_aloadn K 0 rfl rfl 83 dX5_next_82 rfl ?_
          refine g_aloadn K 0 rfl rfl 84 dX5_next_83 rfl ?_
          refine gx_call K hK hsh 87 (ctx_x5_keyword P j42 a ha) (lw_V q544 q546 qs5 q163 q547) wd_x5_keyword ha rfl (Nat.le_of_ble_eq_true rfl) rfl (by decide) rfl (Nat.le_of_ble_eq_true rfl) dX5_next_84 rfl (fun r45 hr46 => ?_)
          refine gx_put K hK hsh 4 (ty := .int) 90 in_X5 tyX5 tyX5_ok nmX5 ha rfl rfl (Nat.le_of_ble_eq_true rfl) rfl (by decide) (Or.inl q500) rfl (by decide +kernel) rfl rfl (Nat.le_of_ble_eq_true rfl) dX5_next_87 rfl (fun I47 _ => ?_)
          refine g_goto K 215 dX5_next_90 (by decide) ?_
          exact gx_vret K hK hsh hr hlk dX5_next_215 rfl
        · refine g_lp (head := 62) (L := fun j48 => [(0, .ref a)]) (sf := fun j48 => []) (mf := fun j48 => (P, j48)) (fun again49 h50 j48 => ?_) fuel I4
          try dsimp only
          refine g_aloadn K 0 rfl rfl 63 dX5_next_62 rfl ?_
          refine gx_call K hK hsh 66 (ctx_x5_isLetter P j48 a ha) (lw_V q539 q541 qs4 q163 q542) wd_x5_isLetter ha rfl (Nat.le_of_ble_eq_true rfl) rfl (by decide) rfl (Nat.le_of_ble_eq_true rfl) dX5_next_63 rfl (fun r51 hr52 => ?_)
          refine g_if_eq K 69 82 dX5_next_66 rfl (by decide) (fun _ => ?_) (fun _ => ?_)
          · exact h44 j48
          · refine g_aloadn K 0 rfl rfl 70 dX5_next_69 rfl ?_
            refine g_dup K rfl 71 dX5_next_70 rfl ?_
            refine gx_get K hK hsh 2 (v := .int (j48 a 2)) 74 in_X5 ha rfl (Nat.le_of_ble_eq_true rfl) rfl (by decide) (Or.inl q498) rfl dX5_next_71 rfl ?_
            refine g_iconst K (nI 1) ic_1 75 dX5_next_74 rfl ?_
            refine g_iadd K 76 dX5_next_75 rfl ?_
            refine gx_put K hK hsh 2 (ty := .int) 79 in_X5 tyX5 tyX5_ok nmX5 ha rfl rfl (Nat.le_of_ble_eq_true rfl) rfl (by decide) (Or.inl q498) rfl (by decide +kernel) rfl rfl (Nat.le_of_ble_eq_true rfl) dX5_next_76 rfl (fun I53 _ => ?_)
            refine g_goto K 62 dX5_next_79 (by decide) ?_
            exact h50 I53
  · refine g_lp (head := 0) (L := fun j55 => [(0, .ref a)]) (sf := fun j55 => []) (mf := fun j55 => (P, j55)) (fun again56 h57 j55 => ?_) fuel I
    try dsimp only
    refine g_aloadn K 0 rfl rfl 1 dX5_next_0 rfl ?_
    refine gx_call K hK hsh 4 (ctx_x5_see P j55 a ha) (lw_V q535 q537 qs3 q163 q538) wd_x5_see ha rfl (Nat.le_of_ble_eq_true rfl) rfl (by decide) rfl (Nat.le_of_ble_eq_true rfl) dX5_next_1 rfl (fun r58 hr59 => ?_)
    refine g_bipush K (nI 32) bp_32 6 dX5_next_4 rfl ?_
    refine g_jn (head := 18) (L := fun j60 => [(0, .ref a)]) (sf := fun j60 => []) (mf := fun j60 => (P, j55)) (fun j60 => ?_) (fun k61 h62 => ?_)
    · try dsimp only
      refine g_aloadn K 0 rfl rfl 19 dX5_next_18 rfl ?_
      refine g_dup K rfl 20 dX5_next_19 rfl ?_
      refine gx_get K hK hsh 2 (v := .int (j55 a 2)) 23 in_X5 ha rfl (Nat.le_of_ble_eq_true rfl) rfl (by decide) (Or.inl q498) rfl dX5_next_20 rfl ?_
      refine g_iconst K (nI 1) ic_1 24 dX5_next_23 rfl ?_
      refine g_iadd K 25 dX5_next_24 rfl ?_
      refine gx_put K hK hsh 2 (ty := .int) 28 in_X5 tyX5 tyX5_ok nmX5 ha rfl rfl (Nat.le_of_ble_eq_true rfl) rfl (by decide) (Or.inl q498) rfl (by decide +kernel) rfl rfl (Nat.le_of_ble_eq_true rfl) dX5_next_25 rfl (fun I63 _ => ?_)
      refine g_goto K 0 dX5_next_28 (by decide) ?_
      exact h57 I63
    · refine g_icmp_eq K 9 18 dX5_next_6 rfl (by decide) (fun _ => ?_) (fun _ => ?_)
      · exact h62 ()
      · refine g_aloadn K 0 rfl rfl 10 dX5_next_9 rfl ?_
        refine gx_call K hK hsh 13 (ctx_x5_see P j55 a ha) (lw_V q535 q537 qs3 q163 q538) wd_x5_see ha rfl (Nat.le_of_ble_eq_true rfl) rfl (by decide) rfl (Nat.le_of_ble_eq_true rfl) dX5_next_10 rfl (fun r64 hr65 => ?_)
        refine g_bipush K (nI 10) bp_10 15 dX5_next_13 rfl ?_
        refine g_icmp_ne K 18 31 dX5_next_15 rfl (by decide) (fun _ => ?_) (fun _ => ?_)
        · exact h62 ()
        · exact h3 j55
