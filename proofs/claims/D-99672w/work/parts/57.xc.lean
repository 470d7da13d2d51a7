/-- GingerRents$Reader.<init>(LGingerRents;I)V -/
noncomputable def x5_init (z : Nat) (sz sl : Nat) (kd : Kd) (P : Ptr) (I : Mem) (a : Nat) (x2 : Int32) : Option (Unit × Sy) := moB sz sl <|
  nm (upP P a 8 (some z)) fun P1 =>
  (alA z kd sz (nI 12)).bind fun len3 =>
  nmA (sz + 1) (sl + len3) (upA kd sz (20, len3, 0)) (upA P1 sz (fun _ => none)) (upA I sz (fun _ => 0)) fun sz5 sl5 kd5 P5 I5 =>
  nm (upP P5 a 1 (some sz)) fun P8 =>
  nm (up2 I5 a 0 x2) fun I9 =>
  chk (∀ cs, cvOk cs z kd5 (upA kd5 a (5, 0, 0)) P8 I9) (some ((), sz5, sl5, (upA kd5 a (5, 0, 0)), P8, I9))
theorem wdb_x5_init : yX5_init.cls ≠ "java/lang/invoke/MethodHandle" ∧ yX5_init.cls ≠ "java/lang/invoke/VarHandle" ∧ (parseMethodDescriptor yX5_init.desc).map (fun d => d.parameters.length) = some 2 := by decide
set_option maxRecDepth 100000 in
theorem ct_x5_init {cs : Cs} {z : Nat} (sz sl : Nat) (kd : Kd) (P : Ptr) (I : Mem) (a : Nat) (x2 : Int32) (ha : kd a = (45, 0, 0)) (hx1 : kd z = (0, 0, 0)) : CtB cs z yX5_init cX5_init 3 none (2) (40) [.ref a, .ref z, .int x2] (sz, sl, kd, P, I) (fun _ => none) (x5_init z sz sl kd P I a x2) := by
  refine CtB.ofM RX5 (by decide) rfl (Nat.le_of_ble_eq_true rfl) ?_
  intro l D p e s m args below meth c hlt hsh K hr hlk hname hK
  refine g_sub (ls' := [(0, .ref a), (1, .ref z), (2, .int x2)]) [0, 1, 2] rfl ?_
  refine g_aloadn K 0 rfl rfl 1 dX5_init_0 rfl ?_
  refine g_aloadn K 1 rfl rfl 2 dX5_init_1 rfl ?_
  refine ga_putpF K hK hsh 8 (ty := .object "GingerRents") 5 in_X5 tyX5 tyX5_ok nmX5 ha rfl rfl (Nat.le_of_ble_eq_true rfl) rfl (by decide) q505 rfl hname rfl (by decide +kernel) rfl rfl (Nat.le_of_ble_eq_true rfl) dX5_init_2 rfl (fun P1 _ => ?_)
  refine g_aloadn K 0 rfl rfl 6 dX5_init_5 rfl ?_
  refine ga_objInit K hK hsh 9 q495 q192 q193 (Nat.le_of_ble_eq_true rfl) (Nat.le_of_ble_eq_true rfl) (Nat.le_of_ble_eq_true rfl) dX5_init_6 rfl ?_
  refine g_aloadn K 0 rfl rfl 10 dX5_init_9 rfl ?_
  refine g_bipush K (nI 12) bp_12 12 dX5_init_10 rfl ?_
  refine ga_newi K hK hsh 14 dX5_init_12 rfl q220 (fun len3 hl4 hn2 hsh => ?_)
  refine g_nmA (fun sz5 sl5 kd5 P5 I5 _ _ he5 _ _ => ?_)
  replace hsh : Shp z kd5 := by rw [he5]; exact hsh
  have hk6 := kd_keep hn2 he5 (Nat.le_of_ble_eq_true rfl) ha
  have hk7 := kd_keep hn2 he5 (Nat.le_of_ble_eq_true rfl) hx1
  refine ga_putpF K hK hsh 1 (ty := .array (.int)) 17 in_X5 tyX5 tyX5_ok nmX5 hk6 rfl rfl (Nat.le_of_ble_eq_true rfl) rfl (by decide) q497 rfl hname rfl (by decide +kernel) rfl rfl (Nat.le_of_ble_eq_true rfl) dX5_init_14 rfl (fun P8 _ => ?_)
  refine g_aloadn K 0 rfl rfl 18 dX5_init_17 rfl ?_
  refine g_iloadn K 2 rfl rfl 19 dX5_init_18 rfl ?_
  refine ga_putF K hK hsh 0 (ty := .int) 22 in_X5 tyX5 tyX5_ok nmX5 hk6 rfl rfl (Nat.le_of_ble_eq_true rfl) rfl (by decide) q496 rfl hname rfl (by decide +kernel) rfl rfl (Nat.le_of_ble_eq_true rfl) dX5_init_19 rfl (fun I9 _ => ?_)
  refine g_chk (fun hcv10 => ?_)
  refine g_cv (hcv10 cs) ?_
  exact ga_vret K hr hlk dX5_init_22 rfl
/-- GingerRents$Reader.number(II)I -/
noncomputable def x5_number (z : Nat) (sz sl : Nat) (kd : Kd) (P : Ptr) (I : Mem) (a : Nat) (x1 : Int32) (x2 : Int32) : Option ((Nat ⊕ Int32) × Sy) := moE sz sl <|
  if (I a 4) = (nI 2) then
  (x0_isIn (I a 5) x1 x2).bind fun r1 =>
  if (bI r1) = 0 then
  thrF z sz sl kd P I a (nI 2)
  else
  (x5_next I z a).bind fun r2 =>
  some (.inr (I a 5), sz, sl, kd, P, r2)
  else
  thrF z sz sl kd P I a (nI 1)
theorem wdb_x5_number : yX5_number.cls = RX5 ∧ yX5_number.cls ≠ "java/lang/invoke/MethodHandle" ∧ yX5_number.cls ≠ "java/lang/invoke/VarHandle" ∧ (parseMethodDescriptor yX5_number.desc).map (fun d => d.parameters.length) = some 2 := by decide
set_option maxRecDepth 100000 in
theorem ct_x5_number {cs : Cs} {z : Nat} (sz sl : Nat) (kd : Kd) (P : Ptr) (I : Mem) (a : Nat) (x1 : Int32) (x2 : Int32) (ha : kd a = (5, 0, 0)) : CtE cs z yX5_number cX5_number 4 (some .int) (10) (209) [.ref a, .int x1, .int x2] (sz, sl, kd, P, I) (fun r => some (.int r)) (x5_number z sz sl kd P I a x1 x2) := by
  refine CtE.ofM RX5 (by decide) rfl (Nat.le_of_ble_eq_true rfl) ?_
  intro l D p e s m args below meth c hlt hsh K hr hlk hxt hK
  refine g_sub (ls' := [(0, .ref a), (1, .int x1), (2, .int x2)]) [0, 1, 2] rfl ?_
  refine g_aloadn K 0 rfl rfl 1 dX5_number_0 rfl ?_
  refine gx_get K hK hsh 4 (v := .int (I a 4)) 4 in_X5 ha rfl (Nat.le_of_ble_eq_true rfl) rfl (by decide) (Or.inl q500) rfl dX5_number_1 rfl ?_
  refine g_iconst K (nI 2) ic_2 5 dX5_number_4 rfl ?_
  refine g_icmp_eq K 8 21 dX5_number_5 rfl (by decide) (fun _ => ?_) (fun _ => ?_)
  · refine g_aloadn K 0 rfl rfl 22 dX5_number_21 rfl ?_
    refine gx_get K hK hsh 5 (v := .int (I a 5)) 25 in_X5 ha rfl (Nat.le_of_ble_eq_true rfl) rfl (by decide) (Or.inl q501) rfl dX5_number_22 rfl ?_
    refine g_iloadn K 1 rfl rfl 26 dX5_number_25 rfl ?_
    refine g_iloadn K 2 rfl rfl 27 dX5_number_26 rfl ?_
    refine g_callSN K 30 (cts_x0_isIn (I a 5) x1 x2) (nm_q543 hK.2) q480 q151 q479 wds_x0_isIn (by decide) rfl (Nat.le_of_ble_eq_true rfl) dX5_number_27 rfl (fun r1 _ => ?_)
    refine g_if_ne K 33 46 dX5_number_30 rfl (by decide) (fun _ => ?_) (fun _ => ?_)
    · exact ge_throwF K hK hsh hlt hxt hlk (nI 2) ic_2 ha (j := 0) rfl (by decide) dX5_number_33 dX5_number_36 dX5_number_37 dX5_number_38 dX5_number_39 dX5_number_42 dX5_number_45
    · refine g_aloadn K 0 rfl rfl 47 dX5_number_46 rfl ?_
      refine gx_get K hK hsh 5 (v := .int (I a 5)) 50 in_X5 ha rfl (Nat.le_of_ble_eq_true rfl) rfl (by decide) (Or.inl q501) rfl dX5_number_47 rfl ?_
      refine g_istoren K [(0, .ref a), (3, .int (I a 5))] [1, 0] rfl (by decide) rfl 51 dX5_number_50 rfl ?_
      refine g_aloadn K 0 rfl rfl 52 dX5_number_51 rfl ?_
      refine gx_call K hK hsh 55 (ctx_x5_next P I a ha) (lw_V q531 q533 qs2 q163 q534) wd_x5_next ha rfl (Nat.le_of_ble_eq_true rfl) rfl (by decide) rfl (Nat.le_of_ble_eq_true rfl) dX5_number_52 rfl (fun r2 hr3 => ?_)
      refine g_iloadn K 1 rfl rfl 56 dX5_number_55 rfl ?_
      exact ge_iret K hr hlk dX5_number_56 rfl
  · exact ge_throwF K hK hsh hlt hxt hlk (nI 1) ic_1 ha (j := 0) rfl (by decide) dX5_number_8 dX5_number_11 dX5_number_12 dX5_number_13 dX5_number_14 dX5_number_17 dX5_number_20
/-- GingerRents$Reader.house()I -/
noncomputable def x5_house (z : Nat) (sz sl : Nat) (kd : Kd) (P : Ptr) (I : Mem) (a : Nat) : Option ((Nat ⊕ Int32) × Sy) := moE sz sl <|
  thr (x5_number z sz sl kd P I a (nI 0) ((I (z + 2) 14) - (nI 1))) fun v2 sz1 sl1 kd1 P1 I1 =>
  chk (Shp z kd1 ∧ Ext kd kd1) (
  some (.inr v2, sz1, sl1, kd1, P1, I1))
theorem wdb_x5_house : yX5_house.cls = RX5 ∧ yX5_house.cls ≠ "java/lang/invoke/MethodHandle" ∧ yX5_house.cls ≠ "java/lang/invoke/VarHandle" ∧ (parseMethodDescriptor yX5_house.desc).map (fun d => d.parameters.length) = some 0 := by decide
set_option maxRecDepth 100000 in
theorem ct_x5_house {cs : Cs} {z : Nat} (sz sl : Nat) (kd : Kd) (P : Ptr) (I : Mem) (a : Nat) (ha : kd a = (5, 0, 0)) : CtE cs z yX5_house cX5_house 1 (some .int) (11) (232) [.ref a] (sz, sl, kd, P, I) (fun r => some (.int r)) (x5_house z sz sl kd P I a) := by
  refine CtE.ofM RX5 (by decide) rfl (Nat.le_of_ble_eq_true rfl) ?_
  intro l D p e s m args below meth c hlt hsh K hr hlk hxt hK
  refine g_sub (ls' := [(0, .ref a)]) [0] rfl ?_
  refine g_aloadn K 0 rfl rfl 1 dX5_house_0 rfl ?_
  refine g_iconst K (nI 0) ic_0 2 dX5_house_1 rfl ?_
  refine g_aloadn K 0 rfl rfl 3 dX5_house_2 rfl ?_
  refine gx_get K hK hsh 8 (v := .ref z) 6 in_X5 ha rfl (Nat.le_of_ble_eq_true rfl) rfl (by decide) (Or.inl q505) rfl dX5_house_3 rfl ?_
  refine gx_get K hK hsh 4 (v := .ref (z + 2)) 9 in_X0 (sh_5_this_0 hsh ha) rfl (Nat.le_of_ble_eq_true rfl) rfl (by decide) (Or.inr (nf_q412 hK.2)) rfl dX5_house_6 rfl ?_
  refine gx_get K hK hsh 14 (v := .int (I (z + 2) 14)) 12 in_X1 (sh_0_borough hsh (sh_5_this_0 hsh ha)) rfl (Nat.le_of_ble_eq_true rfl) rfl (by decide) (Or.inr (nf_q326 hK.2)) rfl dX5_house_9 rfl ?_
  refine g_iconst K (nI 1) ic_1 13 dX5_house_12 rfl ?_
  refine g_isub K 14 dX5_house_13 rfl ?_
  refine ge_callV K hK hsh hlt hxt hlk 17 (ct_x5_number sz sl kd P I a (nI 0) ((I (z + 2) 14) - (nI 1)) ha) (lw_V q729 q731 qs16 q163 q732) wdb_x5_number ha rfl (Nat.le_of_ble_eq_true rfl) rfl (by decide) rfl (Nat.le_of_ble_eq_true rfl) dX5_house_14 rfl (fun v2 sz1 sl1 kd1 P1 I1 _ => ?_)
  try dsimp only
  refine g_chk (fun hc => ?_)
  obtain ⟨hsh, hx3⟩ := hc
  have hk4 := hx3.at ha (Nat.le_of_ble_eq_true rfl)
  exact ge_iret K hr hlk dX5_house_17 rfl
/-- GingerRents$Reader.must(I)V -/
noncomputable def x5_must (z : Nat) (sz sl : Nat) (kd : Kd) (P : Ptr) (I : Mem) (a : Nat) (x1 : Int32) : Option ((Nat ⊕ Unit) × Sy) := moE sz sl <|
  if (I a 4) = x1 then
  (x5_next I z a).bind fun r1 =>
  some (.inr (), sz, sl, kd, P, r1)
  else
  thrF z sz sl kd P I a (nI 1)
theorem wdb_x5_must : yX5_must.cls = RX5 ∧ yX5_must.cls ≠ "java/lang/invoke/MethodHandle" ∧ yX5_must.cls ≠ "java/lang/invoke/VarHandle" ∧ (parseMethodDescriptor yX5_must.desc).map (fun d => d.parameters.length) = some 1 := by decide
set_option maxRecDepth 100000 in
theorem ct_x5_must {cs : Cs} {z : Nat} (sz sl : Nat) (kd : Kd) (P : Ptr) (I : Mem) (a : Nat) (x1 : Int32) (ha : kd a = (5, 0, 0)) : CtE cs z yX5_must cX5_must 2 none (10) (209) [.ref a, .int x1] (sz, sl, kd, P, I) (fun _ => none) (x5_must z sz sl kd P I a x1) := by
  refine CtE.ofM RX5 (by decide) rfl (Nat.le_of_ble_eq_true rfl) ?_
  intro l D p e s m args below meth c hlt hsh K hr hlk hxt hK
  refine g_sub (ls' := [(0, .ref a), (1, .int x1)]) [0, 1] rfl ?_
  refine g_aloadn K 0 rfl rfl 1 dX5_must_0 rfl ?_
  refine gx_get K hK hsh 4 (v := .int (I a 4)) 4 in_X5 ha rfl (Nat.le_of_ble_eq_true rfl) rfl (by decide) (Or.inl q500) rfl dX5_must_1 rfl ?_
  refine g_iloadn K 1 rfl rfl 5 dX5_must_4 rfl ?_
  refine g_icmp_eq K 8 21 dX5_must_5 rfl (by decide) (fun _ => ?_) (fun _ => ?_)
  · refine g_aloadn K 0 rfl rfl 22 dX5_must_21 rfl ?_
    refine gx_call K hK hsh 25 (ctx_x5_next P I a ha) (lw_V q531 q533 qs2 q163 q534) wd_x5_next ha rfl (Nat.le_of_ble_eq_true rfl) rfl (by decide) rfl (Nat.le_of_ble_eq_true rfl) dX5_must_22 rfl (fun r1 hr2 => ?_)
    exact ge_vret K hr hlk dX5_must_25 rfl
  · exact ge_throwF K hK hsh hlt hxt hlk (nI 1) ic_1 ha (j := 0) rfl (by decide) dX5_must_8 dX5_must_11 dX5_must_12 dX5_must_13 dX5_must_14 dX5_must_17 dX5_must_20
/-- GingerRents$Reader.opens()V -/
noncomputable def x5_opens (z : Nat) (sz sl : Nat) (kd : Kd) (P : Ptr) (I : Mem) (a : Nat) : Option ((Nat ⊕ Unit) × Sy) := moE sz sl <|
  if (I a 6) = (nI 8) then
  thrF z sz sl kd P I a (nI 3)
  else
  nm (up2 I a 6 ((I a 6) + (nI 1))) fun I1 =>
  (x5_next I1 z a).bind fun r2 =>
  some (.inr (), sz, sl, kd, P, r2)
theorem wdb_x5_opens : yX5_opens.cls = RX5 ∧ yX5_opens.cls ≠ "java/lang/invoke/MethodHandle" ∧ yX5_opens.cls ≠ "java/lang/invoke/VarHandle" ∧ (parseMethodDescriptor yX5_opens.desc).map (fun d => d.parameters.length) = some 0 := by decide
set_option maxRecDepth 100000 in
theorem ct_x5_opens {cs : Cs} {z : Nat} (sz sl : Nat) (kd : Kd) (P : Ptr) (I : Mem) (a : Nat) (ha : kd a = (5, 0, 0)) : CtE cs z yX5_opens cX5_opens 1 none (10) (209) [.ref a] (sz, sl, kd, P, I) (fun _ => none) (x5_opens z sz sl kd P I a) := by
  refine CtE.ofM RX5 (by decide) rfl (Nat.le_of_ble_eq_true rfl) ?_
  intro l D p e s m args below meth c hlt hsh K hr hlk hxt hK
  refine g_sub (ls' := [(0, .ref a)]) [0] rfl ?_
  refine g_aloadn K 0 rfl rfl 1 dX5_opens_0 rfl ?_
  refine gx_get K hK hsh 6 (v := .int (I a 6)) 4 in_X5 ha rfl (Nat.le_of_ble_eq_true rfl) rfl (by decide) (Or.inl q502) rfl dX5_opens_1 rfl ?_
  refine g_bipush K (nI 8) bp_8 6 dX5_opens_4 rfl ?_
  refine g_icmp_ne K 9 22 dX5_opens_6 rfl (by decide) (fun _ => ?_) (fun _ => ?_)
  · exact ge_throwF K hK hsh hlt hxt hlk (nI 3) ic_3 ha (j := 0) rfl (by decide) dX5_opens_9 dX5_opens_12 dX5_opens_13 dX5_opens_14 dX5_opens_15 dX5_opens_18 dX5_opens_21
  · refine g_aloadn K 0 rfl rfl 23 dX5_opens_22 rfl ?_
    refine g_dup K rfl 24 dX5_opens_23 rfl ?_
    refine gx_get K hK hsh 6 (v := .int (I a 6)) 27 in_X5 ha rfl (Nat.le_of_ble_eq_true rfl) rfl (by decide) (Or.inl q502) rfl dX5_opens_24 rfl ?_
    refine g_iconst K (nI 1) ic_1 28 dX5_opens_27 rfl ?_
    refine g_iadd K 29 dX5_opens_28 rfl ?_
    refine gx_put K hK hsh 6 (ty := .int) 32 in_X5 tyX5 tyX5_ok nmX5 ha rfl rfl (Nat.le_of_ble_eq_true rfl) rfl (by decide) (Or.inl q502) rfl (by decide +kernel) rfl rfl (Nat.le_of_ble_eq_true rfl) dX5_opens_29 rfl (fun I1 _ => ?_)
    refine g_aloadn K 0 rfl rfl 33 dX5_opens_32 rfl ?_
    refine gx_call K hK hsh 36 (ctx_x5_next P I1 a ha) (lw_V q531 q533 qs2 q163 q534) wd_x5_next ha rfl (Nat.le_of_ble_eq_true rfl) rfl (by decide) rfl (Nat.le_of_ble_eq_true rfl) dX5_opens_33 rfl (fun r2 hr3 => ?_)
    exact ge_vret K hr hlk dX5_opens_36 rfl
/-- GingerRents$Reader.unit()LGingerRents$Term; -/
noncomputable def x5_unit (z : Nat) (sz sl : Nat) (kd : Kd) (P : Ptr) (I : Mem) (a : Nat) : Option ((Nat ⊕ Nat) × Sy) := moE sz sl <|
  if (I a 4) = (nI 2) then
  (al z kd sz).bind fun _ =>
  nmA (sz + 1) (sl + 1) (upA kd sz (7, 0, 0)) (upA P sz (fun _ => none)) (upA I sz (fun _ => 0)) fun sz15 sl15 kd15 P15 I15 =>
  thr (x5_number z sz15 sl15 kd15 P15 I15 a (nI 0) (nI 9999)) fun v19 sz18 sl18 kd18 P18 I18 =>
  chk (Shp z kd18 ∧ Ext kd15 kd18) (
  cal (x8_init z sz18 sl18 kd18 P18 I18 sz v19) fun u24 sz23 sl23 kd23 P23 I23 =>
  chk (Shp z kd23 ∧ Ext kd18 kd23) (
  some (.inr sz, sz23, sl23, kd23, P23, I23)))
  else
  (x0_isIn (I a 4) (nI 180) (nI 191)).bind fun r1 =>
  if (bI r1) = 0 then
  thrF z sz sl kd P I a (nI 1)
  else
  nm ((I a 4) - (nI 180)) fun v2 =>
  (x5_next I z a).bind fun r3 =>
  (al z kd sz).bind fun _ =>
  nmA (sz + 1) (sl + 1) (upA kd sz (8, 0, 0)) (upA P sz (fun _ => none)) (upA r3 sz (fun _ => 0)) fun sz6 sl6 kd6 P6 I6 =>
  cal (x9_init z sz6 sl6 kd6 P6 I6 sz v2) fun u10 sz9 sl9 kd9 P9 I9 =>
  chk (Shp z kd9 ∧ Ext kd6 kd9) (
  some (.inr sz, sz9, sl9, kd9, P9, I9))
theorem wdb_x5_unit : yX5_unit.cls = RX5 ∧ yX5_unit.cls ≠ "java/lang/invoke/MethodHandle" ∧ yX5_unit.cls ≠ "java/lang/invoke/VarHandle" ∧ (parseMethodDescriptor yX5_unit.desc).map (fun d => d.parameters.length) = some 0 := by decide
set_option maxRecDepth 100000 in
theorem ct_x5_unit {cs : Cs} {z : Nat} (sz sl : Nat) (kd : Kd) (P : Ptr) (I : Mem) (a : Nat) (ha : kd a = (5, 0, 0)) : CtE cs z yX5_unit cX5_unit 2 (some (.object "GingerRents$Term")) (11) (232) [.ref a] (sz, sl, kd, P, I) (fun r => some (.ref r)) (x5_unit z sz sl kd P I a) := by
  refine CtE.ofM RX5 (by decide) rfl (Nat.le_of_ble_eq_true rfl) ?_
  intro l D p e s m args below meth c hlt hsh K hr hlk hxt hK
  refine g_sub (ls' := [(0, .ref a)]) [0] rfl ?_
  refine g_aloadn K 0 rfl rfl 1 dX5_unit_0 rfl ?_
  refine gx_get K hK hsh 4 (v := .int (I a 4)) 4 in_X5 ha rfl (Nat.le_of_ble_eq_true rfl) rfl (by decide) (Or.inl q500) rfl dX5_unit_1 rfl ?_
  refine g_iconst K (nI 2) ic_2 5 dX5_unit_4 rfl ?_
  refine g_icmp_ne K 8 24 dX5_unit_5 rfl (by decide) (fun _ => ?_) (fun _ => ?_)
  · refine ga_new K hK hsh (ci := 7) (7, 0, 0) 11 in_X8 tyX8 tyX8_ok q727 q728 q171 rfl (fun _ => rfl) (by decide) (by show plainK 7; unfold plainK; omega) dX5_unit_8 rfl (fun hn14 hsh => ?_)
    refine g_nmA (fun sz15 sl15 kd15 P15 I15 _ _ he15 _ _ => ?_)
    replace hsh : Shp z kd15 := by rw [he15]; exact hsh
    have hk16 := kd_keep hn14 he15 (Nat.le_of_ble_eq_true rfl) ha
    refine g_dup K rfl 12 dX5_unit_11 rfl ?_
    refine g_aloadn K 0 rfl rfl 13 dX5_unit_12 rfl ?_
    refine g_iconst K (nI 0) ic_0 14 dX5_unit_13 rfl ?_
    refine g_sipush K (nI 9999) sp_9999 17 dX5_unit_14 rfl ?_
    have hp17 := (kd_new he15)
    refine ge_callV K hK hsh hlt hxt hlk 20 (ct_x5_number sz15 sl15 kd15 P15 I15 a (nI 0) (nI 9999) hk16) (lw_V q729 q731 qs16 q163 q732) wdb_x5_number hk16 rfl (Nat.le_of_ble_eq_true rfl) rfl (by decide) rfl (Nat.le_of_ble_eq_true rfl) dX5_unit_17 rfl (fun v19 sz18 sl18 kd18 P18 I18 _ => ?_)
    try dsimp only
    refine g_chk (fun hc => ?_)
    obtain ⟨hsh, hx20⟩ := hc
    have hk21 := hx20.at hk16 (Nat.le_of_ble_eq_true rfl)
    have hk22 := hx20.at hp17 (Nat.le_of_ble_eq_true rfl)
    refine gb_callI K hK hsh hlt 23 (ct_x8_init sz18 sl18 kd18 P18 I18 sz v19 hk22) (lw_meth q735) q171 q733 q734 rfl wdb_x8_init (by decide) rfl (Nat.le_of_ble_eq_true rfl) dX5_unit_20 rfl (fun u24 sz23 sl23 kd23 P23 I23 _ => ?_)
    try dsimp only
    refine g_chk (fun hc => ?_)
    obtain ⟨hsh, hx25⟩ := hc
    have hk26 := hx25.at hk21 (Nat.le_of_ble_eq_true rfl)
    have hk27 := hx25.at hk22 (Nat.le_of_ble_eq_true rfl)
    exact ge_aret K hr (Or.inl ⟨_, rfl⟩) hlk dX5_unit_23 rfl
  · refine g_aloadn K 0 rfl rfl 25 dX5_unit_24 rfl ?_
    refine gx_get K hK hsh 4 (v := .int (I a 4)) 28 in_X5 ha rfl (Nat.le_of_ble_eq_true rfl) rfl (by decide) (Or.inl q500) rfl dX5_unit_25 rfl ?_
    refine g_sipush K (nI 180) sp_180 31 dX5_unit_28 rfl ?_
    refine g_sipush K (nI 191) sp_191 34 dX5_unit_31 rfl ?_
    refine g_callSN K 37 (cts_x0_isIn (I a 4) (nI 180) (nI 191)) (nm_q543 hK.2) q480 q151 q479 wds_x0_isIn (by decide) rfl (Nat.le_of_ble_eq_true rfl) dX5_unit_34 rfl (fun r1 _ => ?_)
    refine g_if_ne K 40 53 dX5_unit_37 rfl (by decide) (fun _ => ?_) (fun _ => ?_)
    · exact ge_throwF K hK hsh hlt hxt hlk (nI 1) ic_1 ha (j := 0) rfl (by decide) dX5_unit_40 dX5_unit_43 dX5_unit_44 dX5_unit_45 dX5_unit_46 dX5_unit_49 dX5_unit_52
    · refine g_aloadn K 0 rfl rfl 54 dX5_unit_53 rfl ?_
      refine gx_get K hK hsh 4 (v := .int (I a 4)) 57 in_X5 ha rfl (Nat.le_of_ble_eq_true rfl) rfl (by decide) (Or.inl q500) rfl dX5_unit_54 rfl ?_
      refine g_sipush K (nI 180) sp_180 60 dX5_unit_57 rfl ?_
      refine g_isub K 61 dX5_unit_60 rfl ?_
      refine g_nm (fun v2 _ => ?_)
      refine g_istoren K [(0, .ref a), (1, .int v2)] [1, 0] rfl (by decide) rfl 62 dX5_unit_61 rfl ?_
      refine g_aloadn K 0 rfl rfl 63 dX5_unit_62 rfl ?_
      refine gx_call K hK hsh 66 (ctx_x5_next P I a ha) (lw_V q531 q533 qs2 q163 q534) wd_x5_next ha rfl (Nat.le_of_ble_eq_true rfl) rfl (by decide) rfl (Nat.le_of_ble_eq_true rfl) dX5_unit_63 rfl (fun r3 hr4 => ?_)
      refine ga_new K hK hsh (ci := 8) (8, 0, 0) 69 in_X9 tyX9 tyX9_ok q744 q745 q172 rfl (fun _ => rfl) (by decide) (by show plainK 8; unfold plainK; omega) dX5_unit_66 rfl (fun hn5 hsh => ?_)
      refine g_nmA (fun sz6 sl6 kd6 P6 I6 _ _ he6 _ _ => ?_)
      replace hsh : Shp z kd6 := by rw [he6]; exact hsh
      have hk7 := kd_keep hn5 he6 (Nat.le_of_ble_eq_true rfl) ha
      refine g_dup K rfl 70 dX5_unit_69 rfl ?_
      refine g_iloadn K 1 rfl rfl 71 dX5_unit_70 rfl ?_
      have hp8 := (kd_new he6)
      refine gb_callI K hK hsh hlt 74 (ct_x9_init sz6 sl6 kd6 P6 I6 sz v2 hp8) (lw_meth q748) q172 q746 q747 rfl wdb_x9_init (by decide) rfl (Nat.le_of_ble_eq_true rfl) dX5_unit_71 rfl (fun u10 sz9 sl9 kd9 P9 I9 _ => ?_)
      try dsimp only
      refine g_chk (fun hc => ?_)
      obtain ⟨hsh, hx11⟩ := hc
      have hk12 := hx11.at hk7 (Nat.le_of_ble_eq_true rfl)
      have hk13 := hx11.at hp8 (Nat.le_of_ble_eq_true rfl)
      exact ge_aret K hr (Or.inl ⟨_, rfl⟩) hlk dX5_unit_74 rfl
/-- GingerRents$Reader.product()LGingerRents$Term; -/
noncomputable def x5_product (z : Nat) (sz sl : Nat) (kd : Kd) (P : Ptr) (I : Mem) (a : Nat) : Option ((Nat ⊕ Nat) × Sy) := moE sz sl <|
  thr (x5_unit z sz sl kd P I a) fun v2 sz1 sl1 kd1 P1 I1 =>
  chk (Shp z kd1 ∧ Ext kd kd1) (
  lp (fun again6 (j5 : Nat × Nat × Nat × Kd × Ptr × Mem) =>
  chk (Shp z j5.2.2.2.1 ∧ Ext kd1 j5.2.2.2.1) (
  jn (fun (j10 : Nat × Nat × Kd × Ptr × Mem) =>
  chk (Shp z j10.2.2.1 ∧ Ext j5.2.2.2.1 j10.2.2.1) (
  (x5_next j10.2.2.2.2 z a).bind fun r15 =>
  (al z j10.2.2.1 j10.1).bind fun _ =>
  nmA (j10.1 + 1) (j10.2.1 + 3) (upA j10.2.2.1 j10.1 (9, 0, 0)) (upA j10.2.2.2.1 j10.1 (fun _ => none)) (upA r15 j10.1 (fun _ => 0)) fun sz18 sl18 kd18 P18 I18 =>
  jn (fun (j21 : Nat × Nat × Nat × Kd × Ptr × Mem) =>
  chk (Shp z j21.2.2.2.1 ∧ Ext kd18 j21.2.2.2.1) (
  cal (x10_init z j21.2.1 j21.2.2.1 j21.2.2.2.1 j21.2.2.2.2.1 j21.2.2.2.2.2 j10.1 j5.1 (j10.2.2.2.2 a 4) j21.1) fun u28 sz27 sl27 kd27 P27 I27 =>
  chk (Shp z kd27 ∧ Ext j21.2.2.2.1 kd27) (
  again6 (j10.1, sz27, sl27, kd27, P27, I27)))) (fun k22 =>
  if (j10.2.2.2.2 a 4) = (nI 47) then
  (al z kd18 sz18).bind fun _ =>
  nmA (sz18 + 1) (sl18 + 1) (upA kd18 sz18 (7, 0, 0)) (upA P18 sz18 (fun _ => none)) (upA I18 sz18 (fun _ => 0)) fun sz40 sl40 kd40 P40 I40 =>
  thr (x5_number z sz40 sl40 kd40 P40 I40 a (nI 1) (nI 9999)) fun v45 sz44 sl44 kd44 P44 I44 =>
  chk (Shp z kd44 ∧ Ext kd40 kd44) (
  cal (x8_init z sz44 sl44 kd44 P44 I44 sz18 v45) fun u51 sz50 sl50 kd50 P50 I50 =>
  chk (Shp z kd50 ∧ Ext kd44 kd50) (
  k22 (sz18, sz50, sl50, kd50, P50, I50)))
  else
  thr (x5_unit z sz18 sl18 kd18 P18 I18 a) fun v34 sz33 sl33 kd33 P33 I33 =>
  chk (Shp z kd33 ∧ Ext kd18 kd33) (
  k22 (v34, sz33, sl33, kd33, P33, I33))))) (fun k11 =>
  if (j5.2.2.2.2.2 a 4) = (nI 42) then
  k11 (j5.2.1, j5.2.2.1, j5.2.2.2.1, j5.2.2.2.2.1, j5.2.2.2.2.2)
  else
  if (j5.2.2.2.2.2 a 4) = (nI 47) then
  k11 (j5.2.1, j5.2.2.1, j5.2.2.2.1, j5.2.2.2.2.1, j5.2.2.2.2.2)
  else
  some (.inr j5.1, j5.2.1, j5.2.2.1, j5.2.2.2.1, j5.2.2.2.2.1, j5.2.2.2.2.2)))) fuel (v2, sz1, sl1, kd1, P1, I1))
theorem wdb_x5_product : yX5_product.cls = RX5 ∧ yX5_product.cls ≠ "java/lang/invoke/MethodHandle" ∧ yX5_product.cls ≠ "java/lang/invoke/VarHandle" ∧ (parseMethodDescriptor yX5_product.desc).map (fun d => d.parameters.length) = some 0 := by decide
set_option maxRecDepth 100000 in
theorem ct_x5_product {cs : Cs} {z : Nat} (sz sl : Nat) (kd : Kd) (P : Ptr) (I : Mem) (a : Nat) (ha : kd a = (5, 0, 0)) : CtE cs z yX5_product cX5_product 3 (some (.object "GingerRents$Term")) (12) (253) [.ref a] (sz, sl, kd, P, I) (fun r => some (.ref r)) (x5_product z sz sl kd P I a) := by
  refine CtE.ofM RX5 (by decide) rfl (Nat.le_of_ble_eq_true rfl) ?_
  intro l D p e s m args below meth c hlt hsh K hr hlk hxt hK
  refine g_sub (ls' := [(0, .ref a)]) [0] rfl ?_
  refine g_aloadn K 0 rfl rfl 1 dX5_product_0 rfl ?_
  refine ge_callV K hK hsh hlt hxt hlk 4 (ct_x5_unit sz sl kd P I a ha) (lw_V q723 q725 qs15 q163 q726) wdb_x5_unit ha rfl (Nat.le_of_ble_eq_true rfl) rfl (by decide) rfl (Nat.le_of_ble_eq_true rfl) dX5_product_1 rfl (fun v2 sz1 sl1 kd1 P1 I1 _ => ?_)
  try dsimp only
  refine g_chk (fun hc => ?_)
  obtain ⟨hsh, hx3⟩ := hc
  have hk4 := hx3.at ha (Nat.le_of_ble_eq_true rfl)
  refine g_astoren K [(0, .ref a), (1, .ref v2)] [1, 0] rfl (by decide) rfl 5 dX5_product_4 rfl ?_
  refine gx_of ?_
  refine g_lp (head := 5) (L := fun (j5 : Nat × Nat × Nat × Kd × Ptr × Mem) => [(0, .ref a), (1, .ref j5.1)]) (sf := fun j5 => []) (mf := fun j5 => (j5.2.1, j5.2.2.1, j5.2.2.2.1, j5.2.2.2.2.1, j5.2.2.2.2.2)) (fun again6 h7 j5 => ?_) fuel (v2, sz1, sl1, kd1, P1, I1)
  try dsimp only
  refine gy_of ?_
  refine g_chk (fun hc => ?_)
  obtain ⟨hsh, hx8⟩ := hc
  have hk9 := hx8.at hk4 (Nat.le_of_ble_eq_true rfl)
  refine g_aloadn K 0 rfl rfl 6 dX5_product_5 rfl ?_
  refine gx_get K hK hsh 4 (v := .int (j5.2.2.2.2.2 a 4)) 9 in_X5 hk9 rfl (Nat.le_of_ble_eq_true rfl) rfl (by decide) (Or.inl q500) rfl dX5_product_6 rfl ?_
  refine g_bipush K (nI 42) bp_42 11 dX5_product_9 rfl ?_
  refine gx_of ?_
  refine g_jn (head := 23) (L := fun (j10 : Nat × Nat × Kd × Ptr × Mem) => [(0, .ref a), (1, .ref j5.1)]) (sf := fun j10 => []) (mf := fun j10 => (j10.1, j10.2.1, j10.2.2.1, j10.2.2.2.1, j10.2.2.2.2)) (fun j10 => ?_) (fun k11 h12 => ?_)
  · try dsimp only
    refine gy_of ?_
    refine g_chk (fun hc => ?_)
    obtain ⟨hsh, hx13⟩ := hc
    have hk14 := hx13.at hk9 (Nat.le_of_ble_eq_true rfl)
    refine g_aloadn K 0 rfl rfl 24 dX5_product_23 rfl ?_
    refine gx_get K hK hsh 4 (v := .int (j10.2.2.2.2 a 4)) 27 in_X5 hk14 rfl (Nat.le_of_ble_eq_true rfl) rfl (by decide) (Or.inl q500) rfl dX5_product_24 rfl ?_
    refine g_istoren K [(0, .ref a), (1, .ref j5.1), (2, .int (j10.2.2.2.2 a 4))] [1, 2, 0] rfl (by decide) rfl 28 dX5_product_27 rfl ?_
    refine g_aloadn K 0 rfl rfl 29 dX5_product_28 rfl ?_
    refine gx_call K hK hsh 32 (ctx_x5_next j10.2.2.2.1 j10.2.2.2.2 a hk14) (lw_V q531 q533 qs2 q163 q534) wd_x5_next hk14 rfl (Nat.le_of_ble_eq_true rfl) rfl (by decide) rfl (Nat.le_of_ble_eq_true rfl) dX5_product_29 rfl (fun r15 hr16 => ?_)
    refine ga_new K hK hsh (ci := 9) (9, 0, 0) 35 in_X10 tyX10 tyX10_ok q754 q755 q173 rfl (fun _ => rfl) (by decide) (by show plainK 9; unfold plainK; omega) dX5_product_32 rfl (fun hn17 hsh => ?_)
    refine g_nmA (fun sz18 sl18 kd18 P18 I18 _ _ he18 _ _ => ?_)
    replace hsh : Shp z kd18 := by rw [he18]; exact hsh
    have hk19 := kd_keep hn17 he18 (Nat.le_of_ble_eq_true rfl) hk14
    refine g_dup K rfl 36 dX5_product_35 rfl ?_
    refine g_aloadn K 1 rfl rfl 37 dX5_product_36 rfl ?_
    refine g_iloadn K 2 rfl rfl 38 dX5_product_37 rfl ?_
    refine g_iloadn K 2 rfl rfl 39 dX5_product_38 rfl ?_
    refine g_bipush K (nI 47) bp_47 41 dX5_product_39 rfl ?_
    have hp20 := (kd_new he18)
    refine gx_of ?_
    refine g_jn (head := 66) (L := fun (j21 : Nat × Nat × Nat × Kd × Ptr × Mem) => [(0, .ref a)]) (sf := fun j21 => [.ref j21.1, .int (j10.2.2.2.2 a 4), .ref j5.1, .ref j10.1, .ref j10.1]) (mf := fun j21 => (j21.2.1, j21.2.2.1, j21.2.2.2.1, j21.2.2.2.2.1, j21.2.2.2.2.2)) (fun j21 => ?_) (fun k22 h23 => ?_)
    · try dsimp only
      refine gy_of ?_
      refine g_chk (fun hc => ?_)
      obtain ⟨hsh, hx24⟩ := hc
      have hk25 := hx24.at hk19 (Nat.le_of_ble_eq_true rfl)
      have hk26 := hx24.at hp20 (Nat.le_of_ble_eq_true rfl)
      refine gb_callI K hK hsh hlt 69 (ct_x10_init j21.2.1 j21.2.2.1 j21.2.2.2.1 j21.2.2.2.2.1 j21.2.2.2.2.2 j10.1 j5.1 (j10.2.2.2.2 a 4) j21.1 hk26) (lw_meth q758) q173 q756 q757 rfl wdb_x10_init (by decide) rfl (Nat.le_of_ble_eq_true rfl) dX5_product_66 rfl (fun u28 sz27 sl27 kd27 P27 I27 _ => ?_)
      try dsimp only
      refine g_chk (fun hc => ?_)
      obtain ⟨hsh, hx29⟩ := hc
      have hk30 := hx29.at hk25 (Nat.le_of_ble_eq_true rfl)
      have hk31 := hx29.at hk26 (Nat.le_of_ble_eq_true rfl)
      refine g_astoren K [(0, .ref a), (1, .ref j10.1)] [1, 0] rfl (by decide) rfl 70 dX5_product_69 rfl ?_
      refine g_goto K 5 dX5_product_70 (by decide) ?_
      exact gx_of (h7 (j10.1, sz27, sl27, kd27, P27, I27))
    · refine gy_of ?_
      refine g_icmp_ne K 44 62 dX5_product_41 rfl (by decide) (fun _ => ?_) (fun _ => ?_)
      · have hp38 := (kd_new he18)
        refine ga_new K hK hsh (ci := 7) (7, 0, 0) 47 in_X8 tyX8 tyX8_ok q727 q728 q171 rfl (fun _ => rfl) (by decide) (by show plainK 7; unfold plainK; omega) dX5_product_44 rfl (fun hn39 hsh => ?_)
        refine g_nmA (fun sz40 sl40 kd40 P40 I40 _ _ he40 _ _ => ?_)
        replace hsh : Shp z kd40 := by rw [he40]; exact hsh
        have hk41 := kd_keep hn39 he40 (Nat.le_of_ble_eq_true rfl) hk19
        have hk42 := kd_keep hn39 he40 (Nat.le_of_ble_eq_true rfl) hp38
        refine g_dup K rfl 48 dX5_product_47 rfl ?_
        refine g_aloadn K 0 rfl rfl 49 dX5_product_48 rfl ?_
        refine g_iconst K (nI 1) ic_1 50 dX5_product_49 rfl ?_
        refine g_sipush K (nI 9999) sp_9999 53 dX5_product_50 rfl ?_
        have hp43 := (kd_new he40)
        refine ge_callV K hK hsh hlt hxt hlk 56 (ct_x5_number sz40 sl40 kd40 P40 I40 a (nI 1) (nI 9999) hk41) (lw_V q729 q731 qs16 q163 q732) wdb_x5_number hk41 rfl (Nat.le_of_ble_eq_true rfl) rfl (by decide) rfl (Nat.le_of_ble_eq_true rfl) dX5_product_53 rfl (fun v45 sz44 sl44 kd44 P44 I44 _ => ?_)
        try dsimp only
        refine g_chk (fun hc => ?_)
        obtain ⟨hsh, hx46⟩ := hc
        have hk47 := hx46.at hk41 (Nat.le_of_ble_eq_true rfl)
        have hk48 := hx46.at hk42 (Nat.le_of_ble_eq_true rfl)
        have hk49 := hx46.at hp43 (Nat.le_of_ble_eq_true rfl)
        refine gb_callI K hK hsh hlt 59 (ct_x8_init sz44 sl44 kd44 P44 I44 sz18 v45 hk49) (lw_meth q735) q171 q733 q734 rfl wdb_x8_init (by decide) rfl (Nat.le_of_ble_eq_true rfl) dX5_product_56 rfl (fun u51 sz50 sl50 kd50 P50 I50 _ => ?_)
        try dsimp only
        refine g_chk (fun hc => ?_)
        obtain ⟨hsh, hx52⟩ := hc
        have hk53 := hx52.at hk47 (Nat.le_of_ble_eq_true rfl)
        have hk54 := hx52.at hk48 (Nat.le_of_ble_eq_true rfl)
        have hk55 := hx52.at hk49 (Nat.le_of_ble_eq_true rfl)
        refine g_goto K 66 dX5_product_59 (by decide) ?_
        refine g_sub (ls' := [(0, .ref a)]) [0] rfl ?_
        exact gx_of (h23 (sz18, sz50, sl50, kd50, P50, I50))
      · refine g_aloadn K 0 rfl rfl 63 dX5_product_62 rfl ?_
        have hp32 := (kd_new he18)
        refine ge_callV K hK hsh hlt hxt hlk 66 (ct_x5_unit sz18 sl18 kd18 P18 I18 a hk19) (lw_V q723 q725 qs15 q163 q726) wdb_x5_unit hk19 rfl (Nat.le_of_ble_eq_true rfl) rfl (by decide) rfl (Nat.le_of_ble_eq_true rfl) dX5_product_63 rfl (fun v34 sz33 sl33 kd33 P33 I33 _ => ?_)
        try dsimp only
        refine g_chk (fun hc => ?_)
        obtain ⟨hsh, hx35⟩ := hc
        have hk36 := hx35.at hk19 (Nat.le_of_ble_eq_true rfl)
        have hk37 := hx35.at hp32 (Nat.le_of_ble_eq_true rfl)
        refine g_sub (ls' := [(0, .ref a)]) [0] rfl ?_
        exact gx_of (h23 (v34, sz33, sl33, kd33, P33, I33))
  · refine gy_of ?_
    refine g_icmp_eq K 14 23 dX5_product_11 rfl (by decide) (fun _ => ?_) (fun _ => ?_)
    · exact gx_of (h12 (j5.2.1, j5.2.2.1, j5.2.2.2.1, j5.2.2.2.2.1, j5.2.2.2.2.2))
    · refine g_aloadn K 0 rfl rfl 15 dX5_product_14 rfl ?_
      refine gx_get K hK hsh 4 (v := .int (j5.2.2.2.2.2 a 4)) 18 in_X5 hk9 rfl (Nat.le_of_ble_eq_true rfl) rfl (by decide) (Or.inl q500) rfl dX5_product_15 rfl ?_
      refine g_bipush K (nI 47) bp_47 20 dX5_product_18 rfl ?_
      refine g_icmp_ne K 23 73 dX5_product_20 rfl (by decide) (fun _ => ?_) (fun _ => ?_)
      · exact gx_of (h12 (j5.2.1, j5.2.2.1, j5.2.2.2.1, j5.2.2.2.2.1, j5.2.2.2.2.2))
      · refine g_aloadn K 1 rfl rfl 74 dX5_product_73 rfl ?_
        exact ge_aret K hr (Or.inl ⟨_, rfl⟩) hlk dX5_product_74 rfl
/-- GingerRents$Reader.sum()LGingerRents$Term; -/
noncomputable def x5_sum (z : Nat) (sz sl : Nat) (kd : Kd) (P : Ptr) (I : Mem) (a : Nat) : Option ((Nat ⊕ Nat) × Sy) := moE sz sl <|
  thr (x5_product z sz sl kd P I a) fun v2 sz1 sl1 kd1 P1 I1 =>
  chk (Shp z kd1 ∧ Ext kd kd1) (
  lp (fun again6 (j5 : Nat × Nat × Nat × Kd × Ptr × Mem) =>
  chk (Shp z j5.2.2.2.1 ∧ Ext kd1 j5.2.2.2.1) (
  jn (fun (j10 : Nat × Nat × Kd × Ptr × Mem) =>
  chk (Shp z j10.2.2.1 ∧ Ext j5.2.2.2.1 j10.2.2.1) (
  (x5_next j10.2.2.2.2 z a).bind fun r15 =>
  (al z j10.2.2.1 j10.1).bind fun _ =>
  nmA (j10.1 + 1) (j10.2.1 + 3) (upA j10.2.2.1 j10.1 (9, 0, 0)) (upA j10.2.2.2.1 j10.1 (fun _ => none)) (upA r15 j10.1 (fun _ => 0)) fun sz18 sl18 kd18 P18 I18 =>
  thr (x5_product z sz18 sl18 kd18 P18 I18 a) fun v22 sz21 sl21 kd21 P21 I21 =>
  chk (Shp z kd21 ∧ Ext kd18 kd21) (
  cal (x10_init z sz21 sl21 kd21 P21 I21 j10.1 j5.1 (j10.2.2.2.2 a 4) v22) fun u27 sz26 sl26 kd26 P26 I26 =>
  chk (Shp z kd26 ∧ Ext kd21 kd26) (
  again6 (j10.1, sz26, sl26, kd26, P26, I26))))) (fun k11 =>
  if (j5.2.2.2.2.2 a 4) = (nI 43) then
  k11 (j5.2.1, j5.2.2.1, j5.2.2.2.1, j5.2.2.2.2.1, j5.2.2.2.2.2)
  else
  if (j5.2.2.2.2.2 a 4) = (nI 45) then
  k11 (j5.2.1, j5.2.2.1, j5.2.2.2.1, j5.2.2.2.2.1, j5.2.2.2.2.2)
  else
  some (.inr j5.1, j5.2.1, j5.2.2.1, j5.2.2.2.1, j5.2.2.2.2.1, j5.2.2.2.2.2)))) fuel (v2, sz1, sl1, kd1, P1, I1))
theorem wdb_x5_sum : yX5_sum.cls = RX5 ∧ yX5_sum.cls ≠ "java/lang/invoke/MethodHandle" ∧ yX5_sum.cls ≠ "java/lang/invoke/VarHandle" ∧ (parseMethodDescriptor yX5_sum.desc).map (fun d => d.parameters.length) = some 0 := by decide
set_option maxRecDepth 100000 in
theorem ct_x5_sum {cs : Cs} {z : Nat} (sz sl : Nat) (kd : Kd) (P : Ptr) (I : Mem) (a : Nat) (ha : kd a = (5, 0, 0)) : CtE cs z yX5_sum cX5_sum 3 (some (.object "GingerRents$Term")) (13) (275) [.ref a] (sz, sl, kd, P, I) (fun r => some (.ref r)) (x5_sum z sz sl kd P I a) := by
  refine CtE.ofM RX5 (by decide) rfl (Nat.le_of_ble_eq_true rfl) ?_
  intro l D p e s m args below meth c hlt hsh K hr hlk hxt hK
  refine g_sub (ls' := [(0, .ref a)]) [0] rfl ?_
  refine g_aloadn K 0 rfl rfl 1 dX5_sum_0 rfl ?_
  refine ge_callV K hK hsh hlt hxt hlk 4 (ct_x5_product sz sl kd P I a ha) (lw_V q719 q721 qs14 q163 q722) wdb_x5_product ha rfl (Nat.le_of_ble_eq_true rfl) rfl (by decide) rfl (Nat.le_of_ble_eq_true rfl) dX5_sum_1 rfl (fun v2 sz1 sl1 kd1 P1 I1 _ => ?_)
  try dsimp only
  refine g_chk (fun hc => ?_)
  obtain ⟨hsh, hx3⟩ := hc
  have hk4 := hx3.at ha (Nat.le_of_ble_eq_true rfl)
  refine g_astoren K [(0, .ref a), (1, .ref v2)] [1, 0] rfl (by decide) rfl 5 dX5_sum_4 rfl ?_
  refine gx_of ?_
  refine g_lp (head := 5) (L := fun (j5 : Nat × Nat × Nat × Kd × Ptr × Mem) => [(0, .ref a), (1, .ref j5.1)]) (sf := fun j5 => []) (mf := fun j5 => (j5.2.1, j5.2.2.1, j5.2.2.2.1, j5.2.2.2.2.1, j5.2.2.2.2.2)) (fun again6 h7 j5 => ?_) fuel (v2, sz1, sl1, kd1, P1, I1)
  try dsimp only
  refine gy_of ?_
  refine g_chk (fun hc => ?_)
  obtain ⟨hsh, hx8⟩ := hc
  have hk9 := hx8.at hk4 (Nat.le_of_ble_eq_true rfl)
  refine g_aloadn K 0 rfl rfl 6 dX5_sum_5 rfl ?_
  refine gx_get K hK hsh 4 (v := .int (j5.2.2.2.2.2 a 4)) 9 in_X5 hk9 rfl (Nat.le_of_ble_eq_true rfl) rfl (by decide) (Or.inl q500) rfl dX5_sum_6 rfl ?_
  refine g_bipush K (nI 43) bp_43 11 dX5_sum_9 rfl ?_
  refine gx_of ?_
  refine g_jn (head := 23) (L := fun (j10 : Nat × Nat × Kd × Ptr × Mem) => [(0, .ref a), (1, .ref j5.1)]) (sf := fun j10 => []) (mf := fun j10 => (j10.1, j10.2.1, j10.2.2.1, j10.2.2.2.1, j10.2.2.2.2)) (fun j10 => ?_) (fun k11 h12 => ?_)
  · try dsimp only
    refine gy_of ?_
    refine g_chk (fun hc => ?_)
    obtain ⟨hsh, hx13⟩ := hc
    have hk14 := hx13.at hk9 (Nat.le_of_ble_eq_true rfl)
    refine g_aloadn K 0 rfl rfl 24 dX5_sum_23 rfl ?_
    refine gx_get K hK hsh 4 (v := .int (j10.2.2.2.2 a 4)) 27 in_X5 hk14 rfl (Nat.le_of_ble_eq_true rfl) rfl (by decide) (Or.inl q500) rfl dX5_sum_24 rfl ?_
    refine g_istoren K [(0, .ref a), (1, .ref j5.1), (2, .int (j10.2.2.2.2 a 4))] [1, 2, 0] rfl (by decide) rfl 28 dX5_sum_27 rfl ?_
    refine g_aloadn K 0 rfl rfl 29 dX5_sum_28 rfl ?_
    refine gx_call K hK hsh 32 (ctx_x5_next j10.2.2.2.1 j10.2.2.2.2 a hk14) (lw_V q531 q533 qs2 q163 q534) wd_x5_next hk14 rfl (Nat.le_of_ble_eq_true rfl) rfl (by decide) rfl (Nat.le_of_ble_eq_true rfl) dX5_sum_29 rfl (fun r15 hr16 => ?_)
    refine ga_new K hK hsh (ci := 9) (9, 0, 0) 35 in_X10 tyX10 tyX10_ok q754 q755 q173 rfl (fun _ => rfl) (by decide) (by show plainK 9; unfold plainK; omega) dX5_sum_32 rfl (fun hn17 hsh => ?_)
    refine g_nmA (fun sz18 sl18 kd18 P18 I18 _ _ he18 _ _ => ?_)
    replace hsh : Shp z kd18 := by rw [he18]; exact hsh
    have hk19 := kd_keep hn17 he18 (Nat.le_of_ble_eq_true rfl) hk14
    refine g_dup K rfl 36 dX5_sum_35 rfl ?_
    refine g_aloadn K 1 rfl rfl 37 dX5_sum_36 rfl ?_
    refine g_iloadn K 2 rfl rfl 38 dX5_sum_37 rfl ?_
    refine g_aloadn K 0 rfl rfl 39 dX5_sum_38 rfl ?_
    have hp20 := (kd_new he18)
    refine ge_callV K hK hsh hlt hxt hlk 42 (ct_x5_product sz18 sl18 kd18 P18 I18 a hk19) (lw_V q719 q721 qs14 q163 q722) wdb_x5_product hk19 rfl (Nat.le_of_ble_eq_true rfl) rfl (by decide) rfl (Nat.le_of_ble_eq_true rfl) dX5_sum_39 rfl (fun v22 sz21 sl21 kd21 P21 I21 _ => ?_)
    try dsimp only
    refine g_chk (fun hc => ?_)
    obtain ⟨hsh, hx23⟩ := hc
    have hk24 := hx23.at hk19 (Nat.le_of_ble_eq_true rfl)
    have hk25 := hx23.at hp20 (Nat.le_of_ble_eq_true rfl)
    refine gb_callI K hK hsh hlt 45 (ct_x10_init sz21 sl21 kd21 P21 I21 j10.1 j5.1 (j10.2.2.2.2 a 4) v22 hk25) (lw_meth q758) q173 q756 q757 rfl wdb_x10_init (by decide) rfl (Nat.le_of_ble_eq_true rfl) dX5_sum_42 rfl (fun u27 sz26 sl26 kd26 P26 I26 _ => ?_)
    try dsimp only
    refine g_chk (fun hc => ?_)
    obtain ⟨hsh, hx28⟩ := hc
    have hk29 := hx28.at hk24 (Nat.le_of_ble_eq_true rfl)
    have hk30 := hx28.at hk25 (Nat.le_of_ble_eq_true rfl)
    refine g_astoren K [(0, .ref a), (1, .ref j10.1)] [1, 0] rfl (by decide) rfl 46 dX5_sum_45 rfl ?_
    refine g_goto K 5 dX5_sum_46 (by decide) ?_
    exact gx_of (h7 (j10.1, sz26, sl26, kd26, P26, I26))
  · refine gy_of ?_
    refine g_icmp_eq K 14 23 dX5_sum_11 rfl (by decide) (fun _ => ?_) (fun _ => ?_)
    · exact gx_of (h12 (j5.2.1, j5.2.2.1, j5.2.2.2.1, j5.2.2.2.2.1, j5.2.2.2.2.2))
    · refine g_aloadn K 0 rfl rfl 15 dX5_sum_14 rfl ?_
      refine gx_get K hK hsh 4 (v := .int (j5.2.2.2.2.2 a 4)) 18 in_X5 hk9 rfl (Nat.le_of_ble_eq_true rfl) rfl (by decide) (Or.inl q500) rfl dX5_sum_15 rfl ?_
      refine g_bipush K (nI 45) bp_45 20 dX5_sum_18 rfl ?_
      refine g_icmp_ne K 23 49 dX5_sum_20 rfl (by decide) (fun _ => ?_) (fun _ => ?_)
      · exact gx_of (h12 (j5.2.1, j5.2.2.1, j5.2.2.2.1, j5.2.2.2.2.1, j5.2.2.2.2.2))
      · refine g_aloadn K 1 rfl rfl 50 dX5_sum_49 rfl ?_
        exact ge_aret K hr (Or.inl ⟨_, rfl⟩) hlk dX5_sum_50 rfl
theorem wdb_x5_one : yX5_one.cls = RX5 ∧ yX5_one.cls ≠ "java/lang/invoke/MethodHandle" ∧ yX5_one.cls ≠ "java/lang/invoke/VarHandle" ∧ (parseMethodDescriptor yX5_one.desc).map (fun d => d.parameters.length) = some 0 := by decide
theorem wdb_x5_all : yX5_all.cls = RX5 ∧ yX5_all.cls ≠ "java/lang/invoke/MethodHandle" ∧ yX5_all.cls ≠ "java/lang/invoke/VarHandle" ∧ (parseMethodDescriptor yX5_all.desc).map (fun d => d.parameters.length) = some 0 := by decide
theorem wdb_x5_any : yX5_any.cls = RX5 ∧ yX5_any.cls ≠ "java/lang/invoke/MethodHandle" ∧ yX5_any.cls ≠ "java/lang/invoke/VarHandle" ∧ (parseMethodDescriptor yX5_any.desc).map (fun d => d.parameters.length) = some 0 := by decide
/-- GingerRents$Reader.all()LGingerRents$Term; -/
noncomputable def x5_allB (z : Nat) (fO : Nat → Nat → Kd → Ptr → Mem → Option ((Nat ⊕ Nat) × Sy)) (sz sl : Nat) (kd : Kd) (P : Ptr) (I : Mem) (a : Nat) : Option ((Nat ⊕ Nat) × Sy) := moE sz sl <|
  thr (fO sz sl kd P I) fun v2 sz1 sl1 kd1 P1 I1 =>
  chk (Shp z kd1 ∧ Ext kd kd1) (
  lp (fun again6 (j5 : Nat × Nat × Nat × Kd × Ptr × Mem) =>
  chk (Shp z j5.2.2.2.1 ∧ Ext kd1 j5.2.2.2.1) (
  if (j5.2.2.2.2.2 a 4) = (nI 5) then
  (x5_next j5.2.2.2.2.2 z a).bind fun r10 =>
  (al z j5.2.2.2.1 j5.2.1).bind fun _ =>
  nmA (j5.2.1 + 1) (j5.2.2.1 + 3) (upA j5.2.2.2.1 j5.2.1 (9, 0, 0)) (upA j5.2.2.2.2.1 j5.2.1 (fun _ => none)) (upA r10 j5.2.1 (fun _ => 0)) fun sz13 sl13 kd13 P13 I13 =>
  thr (fO sz13 sl13 kd13 P13 I13) fun v17 sz16 sl16 kd16 P16 I16 =>
  chk (Shp z kd16 ∧ Ext kd13 kd16) (
  cal (x10_init z sz16 sl16 kd16 P16 I16 j5.2.1 j5.1 (nI 5) v17) fun u22 sz21 sl21 kd21 P21 I21 =>
  chk (Shp z kd21 ∧ Ext kd16 kd21) (
  again6 (j5.2.1, sz21, sl21, kd21, P21, I21)))
  else
  some (.inr j5.1, j5.2.1, j5.2.2.1, j5.2.2.2.1, j5.2.2.2.2.1, j5.2.2.2.2.2))) fuel (v2, sz1, sl1, kd1, P1, I1))
set_option maxRecDepth 100000 in
theorem ct_x5_allB {cs : Cs} {z : Nat} (d : Nat) (fO : Nat → Nat → Kd → Ptr → Mem → Option ((Nat ⊕ Nat) × Sy)) (a : Nat) (hO : ∀ (sz sl : Nat) (kd : Kd) (P : Ptr) (I : Mem), kd a = (5, 0, 0) → CtE cs z yX5_one cX5_one 3 (some (.object "GingerRents$Term")) (30 + 3 * d) (900 + 90 * d) [.ref a] (sz, sl, kd, P, I) (fun r => some (.ref r)) (fO sz sl kd P I)) (sz sl : Nat) (kd : Kd) (P : Ptr) (I : Mem) (ha : kd a = (5, 0, 0)) : CtE cs z yX5_all cX5_all 2 (some (.object "GingerRents$Term")) (30 + 1 + 3 * d) (900 + 30 + 90 * d) [.ref a] (sz, sl, kd, P, I) (fun r => some (.ref r)) (x5_allB z fO sz sl kd P I a) := by
  refine CtE.ofM RX5 (by decide) rfl (Nat.le_of_ble_eq_true rfl) ?_
  intro l D p e s m args below meth c hlt hsh K hr hlk hxt hK
  refine g_sub (ls' := [(0, .ref a)]) [0] rfl ?_
  refine g_aloadn K 0 rfl rfl 1 dX5_all_0 rfl ?_
  refine ge_callV K hK hsh hlt hxt hlk 4 (hO sz sl kd P I ha) (lw_V q778 q780 qs19 q163 q781) wdb_x5_one ha rfl (Nat.le_of_ble_eq_true rfl) rfl (by omega) rfl (Nat.le_of_ble_eq_true rfl) dX5_all_1 rfl (fun v2 sz1 sl1 kd1 P1 I1 _ => ?_)
  try dsimp only
  refine g_chk (fun hc => ?_)
  obtain ⟨hsh, hx3⟩ := hc
  have hk4 := hx3.at ha (Nat.le_of_ble_eq_true rfl)
  refine g_astoren K [(0, .ref a), (1, .ref v2)] [1, 0] rfl (by decide) rfl 5 dX5_all_4 rfl ?_
  refine gx_of ?_
  refine g_lp (head := 5) (L := fun (j5 : Nat × Nat × Nat × Kd × Ptr × Mem) => [(0, .ref a), (1, .ref j5.1)]) (sf := fun j5 => []) (mf := fun j5 => (j5.2.1, j5.2.2.1, j5.2.2.2.1, j5.2.2.2.2.1, j5.2.2.2.2.2)) (fun again6 h7 j5 => ?_) fuel (v2, sz1, sl1, kd1, P1, I1)
  try dsimp only
  refine gy_of ?_
  refine g_chk (fun hc => ?_)
  obtain ⟨hsh, hx8⟩ := hc
  have hk9 := hx8.at hk4 (Nat.le_of_ble_eq_true rfl)
  refine g_aloadn K 0 rfl rfl 6 dX5_all_5 rfl ?_
  refine gx_get K hK hsh 4 (v := .int (j5.2.2.2.2.2 a 4)) 9 in_X5 hk9 rfl (Nat.le_of_ble_eq_true rfl) rfl (by decide) (Or.inl q500) rfl dX5_all_6 rfl ?_
  refine g_iconst K (nI 5) ic_5 10 dX5_all_9 rfl ?_
  refine g_icmp_ne K 13 34 dX5_all_10 rfl (by decide) (fun _ => ?_) (fun _ => ?_)
  · refine g_aloadn K 0 rfl rfl 14 dX5_all_13 rfl ?_
    refine gx_call K hK hsh 17 (ctx_x5_next j5.2.2.2.2.1 j5.2.2.2.2.2 a hk9) (lw_V q531 q533 qs2 q163 q534) wd_x5_next hk9 rfl (Nat.le_of_ble_eq_true rfl) rfl (by omega) rfl (Nat.le_of_ble_eq_true rfl) dX5_all_14 rfl (fun r10 hr11 => ?_)
    refine ga_new K hK hsh (ci := 9) (9, 0, 0) 20 in_X10 tyX10 tyX10_ok q754 q755 q173 rfl (fun _ => rfl) (by decide) (by show plainK 9; unfold plainK; omega) dX5_all_17 rfl (fun hn12 hsh => ?_)
    refine g_nmA (fun sz13 sl13 kd13 P13 I13 _ _ he13 _ _ => ?_)
    replace hsh : Shp z kd13 := by rw [he13]; exact hsh
    have hk14 := kd_keep hn12 he13 (Nat.le_of_ble_eq_true rfl) hk9
    refine g_dup K rfl 21 dX5_all_20 rfl ?_
    refine g_aloadn K 1 rfl rfl 22 dX5_all_21 rfl ?_
    refine g_iconst K (nI 5) ic_5 23 dX5_all_22 rfl ?_
    refine g_aloadn K 0 rfl rfl 24 dX5_all_23 rfl ?_
    have hp15 := (kd_new he13)
    refine ge_callV K hK hsh hlt hxt hlk 27 (hO sz13 sl13 kd13 P13 I13 hk14) (lw_V q778 q780 qs19 q163 q781) wdb_x5_one hk14 rfl (Nat.le_of_ble_eq_true rfl) rfl (by omega) rfl (Nat.le_of_ble_eq_true rfl) dX5_all_24 rfl (fun v17 sz16 sl16 kd16 P16 I16 _ => ?_)
    try dsimp only
    refine g_chk (fun hc => ?_)
    obtain ⟨hsh, hx18⟩ := hc
    have hk19 := hx18.at hk14 (Nat.le_of_ble_eq_true rfl)
    have hk20 := hx18.at hp15 (Nat.le_of_ble_eq_true rfl)
    refine gb_callI K hK hsh hlt 30 (ct_x10_init sz16 sl16 kd16 P16 I16 j5.2.1 j5.1 (nI 5) v17 hk20) (lw_meth q758) q173 q756 q757 rfl wdb_x10_init (by omega) rfl (Nat.le_of_ble_eq_true rfl) dX5_all_27 rfl (fun u22 sz21 sl21 kd21 P21 I21 _ => ?_)
    try dsimp only
    refine g_chk (fun hc => ?_)
    obtain ⟨hsh, hx23⟩ := hc
    have hk24 := hx23.at hk19 (Nat.le_of_ble_eq_true rfl)
    have hk25 := hx23.at hk20 (Nat.le_of_ble_eq_true rfl)
    refine g_astoren K [(0, .ref a), (1, .ref j5.2.1)] [1, 0] rfl (by decide) rfl 31 dX5_all_30 rfl ?_
    refine g_goto K 5 dX5_all_31 (by decide) ?_
    exact gx_of (h7 (j5.2.1, sz21, sl21, kd21, P21, I21))
  · refine g_aloadn K 1 rfl rfl 35 dX5_all_34 rfl ?_
    exact ge_aret K hr (Or.inl ⟨_, rfl⟩) hlk dX5_all_35 rfl
/-- GingerRents$Reader.any()LGingerRents$Term; -/
noncomputable def x5_anyB (z : Nat) (fA : Nat → Nat → Kd → Ptr → Mem → Option ((Nat ⊕ Nat) × Sy)) (sz sl : Nat) (kd : Kd) (P : Ptr) (I : Mem) (a : Nat) : Option ((Nat ⊕ Nat) × Sy) := moE sz sl <|
  thr (fA sz sl kd P I) fun v2 sz1 sl1 kd1 P1 I1 =>
  chk (Shp z kd1 ∧ Ext kd kd1) (
  lp (fun again6 (j5 : Nat × Nat × Nat × Kd × Ptr × Mem) =>
  chk (Shp z j5.2.2.2.1 ∧ Ext kd1 j5.2.2.2.1) (
  if (j5.2.2.2.2.2 a 4) = (nI 4) then
  (x5_next j5.2.2.2.2.2 z a).bind fun r10 =>
  (al z j5.2.2.2.1 j5.2.1).bind fun _ =>
  nmA (j5.2.1 + 1) (j5.2.2.1 + 3) (upA j5.2.2.2.1 j5.2.1 (9, 0, 0)) (upA j5.2.2.2.2.1 j5.2.1 (fun _ => none)) (upA r10 j5.2.1 (fun _ => 0)) fun sz13 sl13 kd13 P13 I13 =>
  thr (fA sz13 sl13 kd13 P13 I13) fun v17 sz16 sl16 kd16 P16 I16 =>
  chk (Shp z kd16 ∧ Ext kd13 kd16) (
  cal (x10_init z sz16 sl16 kd16 P16 I16 j5.2.1 j5.1 (nI 4) v17) fun u22 sz21 sl21 kd21 P21 I21 =>
  chk (Shp z kd21 ∧ Ext kd16 kd21) (
  again6 (j5.2.1, sz21, sl21, kd21, P21, I21)))
  else
  some (.inr j5.1, j5.2.1, j5.2.2.1, j5.2.2.2.1, j5.2.2.2.2.1, j5.2.2.2.2.2))) fuel (v2, sz1, sl1, kd1, P1, I1))
set_option maxRecDepth 100000 in
theorem ct_x5_anyB {cs : Cs} {z : Nat} (d : Nat) (fA : Nat → Nat → Kd → Ptr → Mem → Option ((Nat ⊕ Nat) × Sy)) (a : Nat) (hA : ∀ (sz sl : Nat) (kd : Kd) (P : Ptr) (I : Mem), kd a = (5, 0, 0) → CtE cs z yX5_all cX5_all 2 (some (.object "GingerRents$Term")) (30 + 1 + 3 * d) (900 + 30 + 90 * d) [.ref a] (sz, sl, kd, P, I) (fun r => some (.ref r)) (fA sz sl kd P I)) (sz sl : Nat) (kd : Kd) (P : Ptr) (I : Mem) (ha : kd a = (5, 0, 0)) : CtE cs z yX5_any cX5_any 2 (some (.object "GingerRents$Term")) (30 + 2 + 3 * d) (900 + 60 + 90 * d) [.ref a] (sz, sl, kd, P, I) (fun r => some (.ref r)) (x5_anyB z fA sz sl kd P I a) := by
  refine CtE.ofM RX5 (by decide) rfl (Nat.le_of_ble_eq_true rfl) ?_
  intro l D p e s m args below meth c hlt hsh K hr hlk hxt hK
  refine g_sub (ls' := [(0, .ref a)]) [0] rfl ?_
  refine g_aloadn K 0 rfl rfl 1 dX5_any_0 rfl ?_
  refine ge_callV K hK hsh hlt hxt hlk 4 (hA sz sl kd P I ha) (lw_V q774 q776 qs18 q163 q777) wdb_x5_all ha rfl (Nat.le_of_ble_eq_true rfl) rfl (by omega) rfl (Nat.le_of_ble_eq_true rfl) dX5_any_1 rfl (fun v2 sz1 sl1 kd1 P1 I1 _ => ?_)
  try dsimp only
  refine g_chk (fun hc => ?_)
  obtain ⟨hsh, hx3⟩ := hc
  have hk4 := hx3.at ha (Nat.le_of_ble_eq_true rfl)
  refine g_astoren K [(0, .ref a), (1, .ref v2)] [1, 0] rfl (by decide) rfl 5 dX5_any_4 rfl ?_
  refine gx_of ?_
  refine g_lp (head := 5) (L := fun (j5 : Nat × Nat × Nat × Kd × Ptr × Mem) => [(0, .ref a), (1, .ref j5.1)]) (sf := fun j5 => []) (mf := fun j5 => (j5.2.1, j5.2.2.1, j5.2.2.2.1, j5.2.2.2.2.1, j5.2.2.2.2.2)) (fun again6 h7 j5 => ?_) fuel (v2, sz1, sl1, kd1, P1, I1)
  try dsimp only
  refine gy_of ?_
  refine g_chk (fun hc => ?_)
  obtain ⟨hsh, hx8⟩ := hc
  have hk9 := hx8.at hk4 (Nat.le_of_ble_eq_true rfl)
  refine g_aloadn K 0 rfl rfl 6 dX5_any_5 rfl ?_
  refine gx_get K hK hsh 4 (v := .int (j5.2.2.2.2.2 a 4)) 9 in_X5 hk9 rfl (Nat.le_of_ble_eq_true rfl) rfl (by decide) (Or.inl q500) rfl dX5_any_6 rfl ?_
  refine g_iconst K (nI 4) ic_4 10 dX5_any_9 rfl ?_
  refine g_icmp_ne K 13 34 dX5_any_10 rfl (by decide) (fun _ => ?_) (fun _ => ?_)
  · refine g_aloadn K 0 rfl rfl 14 dX5_any_13 rfl ?_
    refine gx_call K hK hsh 17 (ctx_x5_next j5.2.2.2.2.1 j5.2.2.2.2.2 a hk9) (lw_V q531 q533 qs2 q163 q534) wd_x5_next hk9 rfl (Nat.le_of_ble_eq_true rfl) rfl (by omega) rfl (Nat.le_of_ble_eq_true rfl) dX5_any_14 rfl (fun r10 hr11 => ?_)
    refine ga_new K hK hsh (ci := 9) (9, 0, 0) 20 in_X10 tyX10 tyX10_ok q754 q755 q173 rfl (fun _ => rfl) (by decide) (by show plainK 9; unfold plainK; omega) dX5_any_17 rfl (fun hn12 hsh => ?_)
    refine g_nmA (fun sz13 sl13 kd13 P13 I13 _ _ he13 _ _ => ?_)
    replace hsh : Shp z kd13 := by rw [he13]; exact hsh
    have hk14 := kd_keep hn12 he13 (Nat.le_of_ble_eq_true rfl) hk9
    refine g_dup K rfl 21 dX5_any_20 rfl ?_
    refine g_aloadn K 1 rfl rfl 22 dX5_any_21 rfl ?_
    refine g_iconst K (nI 4) ic_4 23 dX5_any_22 rfl ?_
    refine g_aloadn K 0 rfl rfl 24 dX5_any_23 rfl ?_
    have hp15 := (kd_new he13)
    refine ge_callV K hK hsh hlt hxt hlk 27 (hA sz13 sl13 kd13 P13 I13 hk14) (lw_V q774 q776 qs18 q163 q777) wdb_x5_all hk14 rfl (Nat.le_of_ble_eq_true rfl) rfl (by omega) rfl (Nat.le_of_ble_eq_true rfl) dX5_any_24 rfl (fun v17 sz16 sl16 kd16 P16 I16 _ => ?_)
    try dsimp only
    refine g_chk (fun hc => ?_)
    obtain ⟨hsh, hx18⟩ := hc
    have hk19 := hx18.at hk14 (Nat.le_of_ble_eq_true rfl)
    have hk20 := hx18.at hp15 (Nat.le_of_ble_eq_true rfl)
    refine gb_callI K hK hsh hlt 30 (ct_x10_init sz16 sl16 kd16 P16 I16 j5.2.1 j5.1 (nI 4) v17 hk20) (lw_meth q758) q173 q756 q757 rfl wdb_x10_init (by omega) rfl (Nat.le_of_ble_eq_true rfl) dX5_any_27 rfl (fun u22 sz21 sl21 kd21 P21 I21 _ => ?_)
    try dsimp only
    refine g_chk (fun hc => ?_)
    obtain ⟨hsh, hx23⟩ := hc
    have hk24 := hx23.at hk19 (Nat.le_of_ble_eq_true rfl)
    have hk25 := hx23.at hk20 (Nat.le_of_ble_eq_true rfl)
    refine g_astoren K [(0, .ref a), (1, .ref j5.2.1)] [1, 0] rfl (by decide) rfl 31 dX5_any_30 rfl ?_
    refine g_goto K 5 dX5_any_31 (by decide) ?_
    exact gx_of (h7 (j5.2.1, sz21, sl21, kd21, P21, I21))
  · refine g_aloadn K 1 rfl rfl 35 dX5_any_34 rfl ?_
    exact ge_aret K hr (Or.inl ⟨_, rfl⟩) hlk dX5_any_35 rfl
/-- GingerRents$Reader.one()LGingerRents$Term; -/
noncomputable def x5_oneB (z : Nat) (fO : Nat → Nat → Kd → Ptr → Mem → Option ((Nat ⊕ Nat) × Sy)) (fN : Nat → Nat → Kd → Ptr → Mem → Option ((Nat ⊕ Nat) × Sy)) (sz sl : Nat) (kd : Kd) (P : Ptr) (I : Mem) (a : Nat) : Option ((Nat ⊕ Nat) × Sy) := moE sz sl <|
  jn (fun (j1 : Nat × Nat × Kd × Ptr × Mem) =>
  chk (Shp z j1.2.2.1 ∧ Ext kd j1.2.2.1) (
  jn (fun (j6 : Int32 × Nat × Nat × Kd × Ptr × Mem) =>
  chk (Shp z j6.2.2.2.1 ∧ Ext j1.2.2.1 j6.2.2.2.1) (
  thr (x5_opens z j6.2.1 j6.2.2.1 j6.2.2.2.1 j6.2.2.2.2.1 j6.2.2.2.2.2 a) fun v12 sz11 sl11 kd11 P11 I11 =>
  chk (Shp z kd11 ∧ Ext j6.2.2.2.1 kd11) (
  jn (fun (j15 : Nat × Nat × Nat × Kd × Ptr × Mem) =>
  chk (Shp z j15.2.2.2.1 ∧ Ext kd11 j15.2.2.2.1) (
  jn (fun (j20 : Nat × Nat × Kd × Ptr × Mem) =>
  chk (Shp z j20.2.2.1 ∧ Ext j15.2.2.2.1 j20.2.2.1) (
  nm (up2 j20.2.2.2.2 a 6 ((j20.2.2.2.2 a 6) - (nI 1))) fun I25 =>
  some (.inr j15.1, j20.1, j20.2.1, j20.2.2.1, j20.2.2.2.1, I25))) (fun k21 =>
  if j6.1 = 0 then
  thr (x5_must z j15.2.1 j15.2.2.1 j15.2.2.2.1 j15.2.2.2.2.1 j15.2.2.2.2.2 a (nI 41)) fun v27 sz26 sl26 kd26 P26 I26 =>
  chk (Shp z kd26 ∧ Ext j15.2.2.2.1 kd26) (
  k21 (sz26, sl26, kd26, P26, I26))
  else
  k21 (j15.2.1, j15.2.2.1, j15.2.2.2.1, j15.2.2.2.2.1, j15.2.2.2.2.2)))) (fun k16 =>
  if j6.1 = 0 then
  thr (fN sz11 sl11 kd11 P11 I11) fun v31 sz30 sl30 kd30 P30 I30 =>
  chk (Shp z kd30 ∧ Ext kd11 kd30) (
  k16 (v31, sz30, sl30, kd30, P30, I30))
  else
  (al z kd11 sz11).bind fun _ =>
  nmA (sz11 + 1) (sl11 + 1) (upA kd11 sz11 (10, 0, 0)) (upA P11 sz11 (fun _ => none)) (upA I11 sz11 (fun _ => 0)) fun sz35 sl35 kd35 P35 I35 =>
  thr (fO sz35 sl35 kd35 P35 I35) fun v39 sz38 sl38 kd38 P38 I38 =>
  chk (Shp z kd38 ∧ Ext kd35 kd38) (
  cal (x11_init z sz38 sl38 kd38 P38 I38 sz11 v39) fun u44 sz43 sl43 kd43 P43 I43 =>
  chk (Shp z kd43 ∧ Ext kd38 kd43) (
  k16 (sz11, sz43, sl43, kd43, P43, I43))))))) (fun k7 =>
  if (j1.2.2.2.2 a 4) = (nI 6) then
  k7 ((nI 1), j1.1, j1.2.1, j1.2.2.1, j1.2.2.2.1, j1.2.2.2.2)
  else
  k7 ((nI 0), j1.1, j1.2.1, j1.2.2.1, j1.2.2.2.1, j1.2.2.2.2)))) (fun k2 =>
  if (I a 4) = (nI 6) then
  k2 (sz, sl, kd, P, I)
  else
  if (I a 4) = (nI 40) then
  k2 (sz, sl, kd, P, I)
  else
  thr (x5_sum z sz sl kd P I a) fun v49 sz48 sl48 kd48 P48 I48 =>
  chk (Shp z kd48 ∧ Ext kd kd48) (
  jn (fun (j52 : Nat × Nat × Kd × Ptr × Mem) =>
  chk (Shp z j52.2.2.1 ∧ Ext kd48 j52.2.2.1) (
  (x5_next j52.2.2.2.2 z a).bind fun r57 =>
  (al z j52.2.2.1 j52.1).bind fun _ =>
  nmA (j52.1 + 1) (j52.2.1 + 3) (upA j52.2.2.1 j52.1 (9, 0, 0)) (upA j52.2.2.2.1 j52.1 (fun _ => none)) (upA r57 j52.1 (fun _ => 0)) fun sz60 sl60 kd60 P60 I60 =>
  thr (x5_sum z sz60 sl60 kd60 P60 I60 a) fun v64 sz63 sl63 kd63 P63 I63 =>
  chk (Shp z kd63 ∧ Ext kd60 kd63) (
  cal (x10_init z sz63 sl63 kd63 P63 I63 j52.1 v49 (I48 a 4) v64) fun u69 sz68 sl68 kd68 P68 I68 =>
  chk (Shp z kd68 ∧ Ext kd63 kd68) (
  some (.inr j52.1, sz68, sl68, kd68, P68, I68))))) (fun k53 =>
  if (I48 a 4) = (nI 60) then
  k53 (sz48, sl48, kd48, P48, I48)
  else
  if (I48 a 4) = (nI 61) then
  k53 (sz48, sl48, kd48, P48, I48)
  else
  if (I48 a 4) = (nI 62) then
  k53 (sz48, sl48, kd48, P48, I48)
  else
  thrF z sz48 sl48 kd48 P48 I48 a (nI 1))))
set_option maxRecDepth 100000 in
theorem ct_x5_oneB {cs : Cs} {z : Nat} (d : Nat) (fO : Nat → Nat → Kd → Ptr → Mem → Option ((Nat ⊕ Nat) × Sy)) (fN : Nat → Nat → Kd → Ptr → Mem → Option ((Nat ⊕ Nat) × Sy)) (a : Nat) (hO : ∀ (sz sl : Nat) (kd : Kd) (P : Ptr) (I : Mem), kd a = (5, 0, 0) → CtE cs z yX5_one cX5_one 3 (some (.object "GingerRents$Term")) (30 + 3 * d) (900 + 90 * d) [.ref a] (sz, sl, kd, P, I) (fun r => some (.ref r)) (fO sz sl kd P I)) (hN : ∀ (sz sl : Nat) (kd : Kd) (P : Ptr) (I : Mem), kd a = (5, 0, 0) → CtE cs z yX5_any cX5_any 2 (some (.object "GingerRents$Term")) (30 + 2 + 3 * d) (900 + 60 + 90 * d) [.ref a] (sz, sl, kd, P, I) (fun r => some (.ref r)) (fN sz sl kd P I)) (sz sl : Nat) (kd : Kd) (P : Ptr) (I : Mem) (ha : kd a = (5, 0, 0)) : CtE cs z yX5_one cX5_one 3 (some (.object "GingerRents$Term")) (30 + 3 * (d + 1)) (900 + 90 * (d + 1)) [.ref a] (sz, sl, kd, P, I) (fun r => some (.ref r)) (x5_oneB z fO fN sz sl kd P I a) := by
  refine CtE.ofM RX5 (by decide) rfl (Nat.le_of_ble_eq_true rfl) ?_
  intro l D p e s m args below meth c hlt hsh K hr hlk hxt hK
  refine g_sub (ls' := [(0, .ref a)]) [0] rfl ?_
  refine g_aloadn K 0 rfl rfl 1 dX5_one_0 rfl ?_
  refine gx_get K hK hsh 4 (v := .int (I a 4)) 4 in_X5 ha rfl (Nat.le_of_ble_eq_true rfl) rfl (by decide) (Or.inl q500) rfl dX5_one_1 rfl ?_
  refine g_bipush K (nI 6) bp_6 6 dX5_one_4 rfl ?_
  refine gx_of ?_
  refine g_jn (head := 18) (L := fun (j1 : Nat × Nat × Kd × Ptr × Mem) => [(0, .ref a)]) (sf := fun j1 => []) (mf := fun j1 => (j1.1, j1.2.1, j1.2.2.1, j1.2.2.2.1, j1.2.2.2.2)) (fun j1 => ?_) (fun k2 h3 => ?_)
  · try dsimp only
    refine gy_of ?_
    refine g_chk (fun hc => ?_)
    obtain ⟨hsh, hx4⟩ := hc
    have hk5 := hx4.at ha (Nat.le_of_ble_eq_true rfl)
    refine g_aloadn K 0 rfl rfl 19 dX5_one_18 rfl ?_
    refine gx_get K hK hsh 4 (v := .int (j1.2.2.2.2 a 4)) 22 in_X5 hk5 rfl (Nat.le_of_ble_eq_true rfl) rfl (by decide) (Or.inl q500) rfl dX5_one_19 rfl ?_
    refine g_bipush K (nI 6) bp_6 24 dX5_one_22 rfl ?_
    refine gx_of ?_
    refine g_jn (head := 32) (L := fun (j6 : Int32 × Nat × Nat × Kd × Ptr × Mem) => [(0, .ref a)]) (sf := fun j6 => [.int j6.1]) (mf := fun j6 => (j6.2.1, j6.2.2.1, j6.2.2.2.1, j6.2.2.2.2.1, j6.2.2.2.2.2)) (fun j6 => ?_) (fun k7 h8 => ?_)
    · try dsimp only
      refine gy_of ?_
      refine g_chk (fun hc => ?_)
      obtain ⟨hsh, hx9⟩ := hc
      have hk10 := hx9.at hk5 (Nat.le_of_ble_eq_true rfl)
      refine g_istoren K [(0, .ref a), (1, .int j6.1)] [1, 0] rfl (by decide) rfl 33 dX5_one_32 rfl ?_
      refine g_aloadn K 0 rfl rfl 34 dX5_one_33 rfl ?_
      refine ge_callV K hK hsh hlt hxt hlk 37 (ct_x5_opens j6.2.1 j6.2.2.1 j6.2.2.2.1 j6.2.2.2.2.1 j6.2.2.2.2.2 a hk10) (lw_V q782 q784 qs20 q163 q785) wdb_x5_opens hk10 rfl (Nat.le_of_ble_eq_true rfl) rfl (by omega) rfl (Nat.le_of_ble_eq_true rfl) dX5_one_34 rfl (fun v12 sz11 sl11 kd11 P11 I11 _ => ?_)
      try dsimp only
      refine g_chk (fun hc => ?_)
      obtain ⟨hsh, hx13⟩ := hc
      have hk14 := hx13.at hk10 (Nat.le_of_ble_eq_true rfl)
      refine g_iloadn K 1 rfl rfl 38 dX5_one_37 rfl ?_
      refine gx_of ?_
      refine g_jn (head := 59) (L := fun (j15 : Nat × Nat × Nat × Kd × Ptr × Mem) => [(0, .ref a), (1, .int j6.1)]) (sf := fun j15 => [.ref j15.1]) (mf := fun j15 => (j15.2.1, j15.2.2.1, j15.2.2.2.1, j15.2.2.2.2.1, j15.2.2.2.2.2)) (fun j15 => ?_) (fun k16 h17 => ?_)
      · try dsimp only
        refine gy_of ?_
        refine g_chk (fun hc => ?_)
        obtain ⟨hsh, hx18⟩ := hc
        have hk19 := hx18.at hk14 (Nat.le_of_ble_eq_true rfl)
        refine g_astoren K [(0, .ref a), (1, .int j6.1), (2, .ref j15.1)] [1, 2, 0] rfl (by decide) rfl 60 dX5_one_59 rfl ?_
        refine g_iloadn K 1 rfl rfl 61 dX5_one_60 rfl ?_
        refine gx_of ?_
        refine g_jn (head := 70) (L := fun (j20 : Nat × Nat × Kd × Ptr × Mem) => [(0, .ref a), (2, .ref j15.1)]) (sf := fun j20 => []) (mf := fun j20 => (j20.1, j20.2.1, j20.2.2.1, j20.2.2.2.1, j20.2.2.2.2)) (fun j20 => ?_) (fun k21 h22 => ?_)
        · try dsimp only
          refine gy_of ?_
          refine g_chk (fun hc => ?_)
          obtain ⟨hsh, hx23⟩ := hc
          have hk24 := hx23.at hk19 (Nat.le_of_ble_eq_true rfl)
          refine g_aloadn K 0 rfl rfl 71 dX5_one_70 rfl ?_
          refine g_dup K rfl 72 dX5_one_71 rfl ?_
          refine gx_get K hK hsh 6 (v := .int (j20.2.2.2.2 a 6)) 75 in_X5 hk24 rfl (Nat.le_of_ble_eq_true rfl) rfl (by decide) (Or.inl q502) rfl dX5_one_72 rfl ?_
          refine g_iconst K (nI 1) ic_1 76 dX5_one_75 rfl ?_
          refine g_isub K 77 dX5_one_76 rfl ?_
          refine gx_put K hK hsh 6 (ty := .int) 80 in_X5 tyX5 tyX5_ok nmX5 hk24 rfl rfl (Nat.le_of_ble_eq_true rfl) rfl (by decide) (Or.inl q502) rfl (by decide +kernel) rfl rfl (Nat.le_of_ble_eq_true rfl) dX5_one_77 rfl (fun I25 _ => ?_)
          refine g_aloadn K 1 rfl rfl 81 dX5_one_80 rfl ?_
          exact ge_aret K hr (Or.inl ⟨_, rfl⟩) hlk dX5_one_81 rfl
        · refine gy_of ?_
          refine g_if_ne K 64 70 dX5_one_61 rfl (by decide) (fun _ => ?_) (fun _ => ?_)
          · refine g_aloadn K 0 rfl rfl 65 dX5_one_64 rfl ?_
            refine g_bipush K (nI 41) bp_41 67 dX5_one_65 rfl ?_
            refine ge_callV K hK hsh hlt hxt hlk 70 (ct_x5_must j15.2.1 j15.2.2.1 j15.2.2.2.1 j15.2.2.2.2.1 j15.2.2.2.2.2 a (nI 41) hk19) (lw_V q796 q798 qs21 q163 q799) wdb_x5_must hk19 rfl (Nat.le_of_ble_eq_true rfl) rfl (by omega) rfl (Nat.le_of_ble_eq_true rfl) dX5_one_67 rfl (fun v27 sz26 sl26 kd26 P26 I26 _ => ?_)
            try dsimp only
            refine g_chk (fun hc => ?_)
            obtain ⟨hsh, hx28⟩ := hc
            have hk29 := hx28.at hk19 (Nat.le_of_ble_eq_true rfl)
            refine g_sub (ls' := [(0, .ref a), (2, .ref j15.1)]) [0, 2] rfl ?_
            exact gx_of (h22 (sz26, sl26, kd26, P26, I26))
          · refine g_sub (ls' := [(0, .ref a), (2, .ref j15.1)]) [0, 2] rfl ?_
            exact gx_of (h22 (j15.2.1, j15.2.2.1, j15.2.2.2.1, j15.2.2.2.2.1, j15.2.2.2.2.2))
      · refine gy_of ?_
        refine g_if_eq K 41 55 dX5_one_38 rfl (by decide) (fun _ => ?_) (fun _ => ?_)
        · refine g_aloadn K 0 rfl rfl 56 dX5_one_55 rfl ?_
          refine ge_callV K hK hsh hlt hxt hlk 59 (hN sz11 sl11 kd11 P11 I11 hk14) (lw_V q770 q772 qs17 q163 q773) wdb_x5_any hk14 rfl (Nat.le_of_ble_eq_true rfl) rfl (by omega) rfl (Nat.le_of_ble_eq_true rfl) dX5_one_56 rfl (fun v31 sz30 sl30 kd30 P30 I30 _ => ?_)
          try dsimp only
          refine g_chk (fun hc => ?_)
          obtain ⟨hsh, hx32⟩ := hc
          have hk33 := hx32.at hk14 (Nat.le_of_ble_eq_true rfl)
          exact gx_of (h17 (v31, sz30, sl30, kd30, P30, I30))
        · refine ga_new K hK hsh (ci := 10) (10, 0, 0) 44 in_X11 tyX11 tyX11_ok q786 q787 q174 rfl (fun _ => rfl) (by decide) (by show plainK 10; unfold plainK; omega) dX5_one_41 rfl (fun hn34 hsh => ?_)
          refine g_nmA (fun sz35 sl35 kd35 P35 I35 _ _ he35 _ _ => ?_)
          replace hsh : Shp z kd35 := by rw [he35]; exact hsh
          have hk36 := kd_keep hn34 he35 (Nat.le_of_ble_eq_true rfl) hk14
          refine g_dup K rfl 45 dX5_one_44 rfl ?_
          refine g_aloadn K 0 rfl rfl 46 dX5_one_45 rfl ?_
          have hp37 := (kd_new he35)
          refine ge_callV K hK hsh hlt hxt hlk 49 (hO sz35 sl35 kd35 P35 I35 hk36) (lw_V q778 q780 qs19 q163 q781) wdb_x5_one hk36 rfl (Nat.le_of_ble_eq_true rfl) rfl (by omega) rfl (Nat.le_of_ble_eq_true rfl) dX5_one_46 rfl (fun v39 sz38 sl38 kd38 P38 I38 _ => ?_)
          try dsimp only
          refine g_chk (fun hc => ?_)
          obtain ⟨hsh, hx40⟩ := hc
          have hk41 := hx40.at hk36 (Nat.le_of_ble_eq_true rfl)
          have hk42 := hx40.at hp37 (Nat.le_of_ble_eq_true rfl)
          refine gb_callI K hK hsh hlt 52 (ct_x11_init sz38 sl38 kd38 P38 I38 sz11 v39 hk42) (lw_meth q790) q174 q788 q789 rfl wdb_x11_init (by omega) rfl (Nat.le_of_ble_eq_true rfl) dX5_one_49 rfl (fun u44 sz43 sl43 kd43 P43 I43 _ => ?_)
          try dsimp only
          refine g_chk (fun hc => ?_)
          obtain ⟨hsh, hx45⟩ := hc
          have hk46 := hx45.at hk41 (Nat.le_of_ble_eq_true rfl)
          have hk47 := hx45.at hk42 (Nat.le_of_ble_eq_true rfl)
          refine g_goto K 59 dX5_one_52 (by decide) ?_
          exact gx_of (h17 (sz11, sz43, sl43, kd43, P43, I43))
    · refine gy_of ?_
      refine g_icmp_ne K 27 31 dX5_one_24 rfl (by decide) (fun _ => ?_) (fun _ => ?_)
      · refine g_iconst K (nI 1) ic_1 28 dX5_one_27 rfl ?_
        refine g_goto K 32 dX5_one_28 (by decide) ?_
        exact gx_of (h8 ((nI 1), j1.1, j1.2.1, j1.2.2.1, j1.2.2.2.1, j1.2.2.2.2))
      · refine g_iconst K (nI 0) ic_0 32 dX5_one_31 rfl ?_
        exact gx_of (h8 ((nI 0), j1.1, j1.2.1, j1.2.2.1, j1.2.2.2.1, j1.2.2.2.2))
  · refine gy_of ?_
    refine g_icmp_eq K 9 18 dX5_one_6 rfl (by decide) (fun _ => ?_) (fun _ => ?_)
    · exact gx_of (h3 (sz, sl, kd, P, I))
    · refine g_aloadn K 0 rfl rfl 10 dX5_one_9 rfl ?_
      refine gx_get K hK hsh 4 (v := .int (I a 4)) 13 in_X5 ha rfl (Nat.le_of_ble_eq_true rfl) rfl (by decide) (Or.inl q500) rfl dX5_one_10 rfl ?_
      refine g_bipush K (nI 40) bp_40 15 dX5_one_13 rfl ?_
      refine g_icmp_ne K 18 82 dX5_one_15 rfl (by decide) (fun _ => ?_) (fun _ => ?_)
      · exact gx_of (h3 (sz, sl, kd, P, I))
      · refine g_aloadn K 0 rfl rfl 83 dX5_one_82 rfl ?_
        refine ge_callV K hK hsh hlt hxt hlk 86 (ct_x5_sum sz sl kd P I a ha) (lw_V q715 q717 qs13 q163 q718) wdb_x5_sum ha rfl (Nat.le_of_ble_eq_true rfl) rfl (by omega) rfl (Nat.le_of_ble_eq_true rfl) dX5_one_83 rfl (fun v49 sz48 sl48 kd48 P48 I48 _ => ?_)
        try dsimp only
        refine g_chk (fun hc => ?_)
        obtain ⟨hsh, hx50⟩ := hc
        have hk51 := hx50.at ha (Nat.le_of_ble_eq_true rfl)
        refine g_astoren K [(0, .ref a), (1, .ref v49)] [1, 0] rfl (by decide) rfl 87 dX5_one_86 rfl ?_
        refine g_aloadn K 0 rfl rfl 88 dX5_one_87 rfl ?_
        refine gx_get K hK hsh 4 (v := .int (I48 a 4)) 91 in_X5 hk51 rfl (Nat.le_of_ble_eq_true rfl) rfl (by decide) (Or.inl q500) rfl dX5_one_88 rfl ?_
        refine g_istoren K [(0, .ref a), (1, .ref v49), (2, .int (I48 a 4))] [1, 2, 0] rfl (by decide) rfl 92 dX5_one_91 rfl ?_
        refine g_iloadn K 2 rfl rfl 93 dX5_one_92 rfl ?_
        refine g_bipush K (nI 60) bp_60 95 dX5_one_93 rfl ?_
        refine gx_of ?_
        refine g_jn (head := 123) (L := fun (j52 : Nat × Nat × Kd × Ptr × Mem) => [(0, .ref a), (1, .ref v49), (2, .int (I48 a 4))]) (sf := fun j52 => []) (mf := fun j52 => (j52.1, j52.2.1, j52.2.2.1, j52.2.2.2.1, j52.2.2.2.2)) (fun j52 => ?_) (fun k53 h54 => ?_)
        · try dsimp only
          refine gy_of ?_
          refine g_chk (fun hc => ?_)
          obtain ⟨hsh, hx55⟩ := hc
          have hk56 := hx55.at hk51 (Nat.le_of_ble_eq_true rfl)
          refine g_aloadn K 0 rfl rfl 124 dX5_one_123 rfl ?_
          refine gx_call K hK hsh 127 (ctx_x5_next j52.2.2.2.1 j52.2.2.2.2 a hk56) (lw_V q531 q533 qs2 q163 q534) wd_x5_next hk56 rfl (Nat.le_of_ble_eq_true rfl) rfl (by omega) rfl (Nat.le_of_ble_eq_true rfl) dX5_one_124 rfl (fun r57 hr58 => ?_)
          refine ga_new K hK hsh (ci := 9) (9, 0, 0) 130 in_X10 tyX10 tyX10_ok q754 q755 q173 rfl (fun _ => rfl) (by decide) (by show plainK 9; unfold plainK; omega) dX5_one_127 rfl (fun hn59 hsh => ?_)
          refine g_nmA (fun sz60 sl60 kd60 P60 I60 _ _ he60 _ _ => ?_)
          replace hsh : Shp z kd60 := by rw [he60]; exact hsh
          have hk61 := kd_keep hn59 he60 (Nat.le_of_ble_eq_true rfl) hk56
          refine g_dup K rfl 131 dX5_one_130 rfl ?_
          refine g_aloadn K 1 rfl rfl 132 dX5_one_131 rfl ?_
          refine g_iloadn K 2 rfl rfl 133 dX5_one_132 rfl ?_
          refine g_aloadn K 0 rfl rfl 134 dX5_one_133 rfl ?_
          have hp62 := (kd_new he60)
          refine ge_callV K hK hsh hlt hxt hlk 137 (ct_x5_sum sz60 sl60 kd60 P60 I60 a hk61) (lw_V q715 q717 qs13 q163 q718) wdb_x5_sum hk61 rfl (Nat.le_of_ble_eq_true rfl) rfl (by omega) rfl (Nat.le_of_ble_eq_true rfl) dX5_one_134 rfl (fun v64 sz63 sl63 kd63 P63 I63 _ => ?_)
          try dsimp only
          refine g_chk (fun hc => ?_)
          obtain ⟨hsh, hx65⟩ := hc
          have hk66 := hx65.at hk61 (Nat.le_of_ble_eq_true rfl)
          have hk67 := hx65.at hp62 (Nat.le_of_ble_eq_true rfl)
          refine gb_callI K hK hsh hlt 140 (ct_x10_init sz63 sl63 kd63 P63 I63 j52.1 v49 (I48 a 4) v64 hk67) (lw_meth q758) q173 q756 q757 rfl wdb_x10_init (by omega) rfl (Nat.le_of_ble_eq_true rfl) dX5_one_137 rfl (fun u69 sz68 sl68 kd68 P68 I68 _ => ?_)
          try dsimp only
          refine g_chk (fun hc => ?_)
          obtain ⟨hsh, hx70⟩ := hc
          have hk71 := hx70.at hk66 (Nat.le_of_ble_eq_true rfl)
          have hk72 := hx70.at hk67 (Nat.le_of_ble_eq_true rfl)
          exact ge_aret K hr (Or.inl ⟨_, rfl⟩) hlk dX5_one_140 rfl
        · refine gy_of ?_
          refine g_icmp_eq K 98 123 dX5_one_95 rfl (by decide) (fun _ => ?_) (fun _ => ?_)
          · exact gx_of (h54 (sz48, sl48, kd48, P48, I48))
          · refine g_iloadn K 2 rfl rfl 99 dX5_one_98 rfl ?_
            refine g_bipush K (nI 61) bp_61 101 dX5_one_99 rfl ?_
            refine g_icmp_eq K 104 123 dX5_one_101 rfl (by decide) (fun _ => ?_) (fun _ => ?_)
            · exact gx_of (h54 (sz48, sl48, kd48, P48, I48))
            · refine g_iloadn K 2 rfl rfl 105 dX5_one_104 rfl ?_
              refine g_bipush K (nI 62) bp_62 107 dX5_one_105 rfl ?_
              refine g_icmp_eq K 110 123 dX5_one_107 rfl (by decide) (fun _ => ?_) (fun _ => ?_)
              · exact gx_of (h54 (sz48, sl48, kd48, P48, I48))
              · exact ge_throwF K hK hsh hlt hxt hlk (nI 1) ic_1 hk51 (j := 0) rfl (by omega) dX5_one_110 dX5_one_113 dX5_one_114 dX5_one_115 dX5_one_116 dX5_one_119 dX5_one_122
/-- one, all, any, so deep at most -/
noncomputable def x5_one (z a : Nat) : Nat → Nat → Nat → Kd → Ptr → Mem → Option ((Nat ⊕ Nat) × Sy)
  | 0, _, _, _, _, _ => none
  | d + 1, sz, sl, kd, P, I => x5_oneB z (x5_one z a d) (fun sz sl kd P I => x5_anyB z (fun sz sl kd P I => x5_allB z (x5_one z a d) sz sl kd P I a) sz sl kd P I a) sz sl kd P I a
noncomputable def x5_all (z a d : Nat) (sz sl : Nat) (kd : Kd) (P : Ptr) (I : Mem) : Option ((Nat ⊕ Nat) × Sy) := x5_allB z (x5_one z a d) sz sl kd P I a
noncomputable def x5_any (z a d : Nat) (sz sl : Nat) (kd : Kd) (P : Ptr) (I : Mem) : Option ((Nat ⊕ Nat) × Sy) := x5_anyB z (x5_all z a d) sz sl kd P I a
theorem ct_x5_oneD {cs : Cs} {z a : Nat} (d : Nat) : ∀ (sz sl : Nat) (kd : Kd) (P : Ptr) (I : Mem), kd a = (5, 0, 0) → CtE cs z yX5_one cX5_one 3 (some (.object "GingerRents$Term")) (30 + 3 * d) (900 + 90 * d) [.ref a] (sz, sl, kd, P, I) (fun r => some (.ref r)) (x5_one z a d sz sl kd P I) := by
  induction d with
  | zero => intro sz sl kd P I _ l D _ _ r hr; cases hr
  | succ d ih =>
    intro sz sl kd P I ha
    exact ct_x5_oneB d _ _ a ih (fun sz sl kd P I ha => ct_x5_anyB d _ a (fun sz sl kd P I ha => ct_x5_allB d _ a ih sz sl kd P I ha) sz sl kd P I ha) sz sl kd P I ha
theorem ct_x5_anyD {cs : Cs} {z a : Nat} (d : Nat) (sz sl : Nat) (kd : Kd) (P : Ptr) (I : Mem) (ha : kd a = (5, 0, 0)) : CtE cs z yX5_any cX5_any 2 (some (.object "GingerRents$Term")) (30 + 2 + 3 * d) (900 + 60 + 90 * d) [.ref a] (sz, sl, kd, P, I) (fun r => some (.ref r)) (x5_any z a d sz sl kd P I) :=
  ct_x5_anyB d _ a (fun sz sl kd P I ha => ct_x5_allB d _ a (ct_x5_oneD d) sz sl kd P I ha) sz sl kd P I ha
noncomputable def x5_any12 (z : Nat) (sz sl : Nat) (kd : Kd) (P : Ptr) (I : Mem) (a : Nat) : Option ((Nat ⊕ Nat) × Sy) := x5_any z a 12 sz sl kd P I
theorem ct_x5_any12 {cs : Cs} {z : Nat} (sz sl : Nat) (kd : Kd) (P : Ptr) (I : Mem) (a : Nat) (ha : kd a = (5, 0, 0)) : CtE cs z yX5_any cX5_any 2 (some (.object "GingerRents$Term")) (68) (2040) [.ref a] (sz, sl, kd, P, I) (fun r => some (.ref r)) (x5_any12 z sz sl kd P I a) := ct_x5_anyD 12 sz sl kd P I ha
/-- GingerRents$Reader.law()Ljava/util/ArrayList; -/
noncomputable def x5_law (z : Nat) (em : Nat) (sz sl : Nat) (kd : Kd) (P : Ptr) (I : Mem) (a : Nat) : Option ((Nat ⊕ Nat) × Sy) := moE sz sl <|
  (al z kd sz).bind fun _ =>
  nmA (sz + 1) (sl + 3) (upA kd sz (18, 0, 0)) (upA P sz (fun _ => none)) (upA I sz (fun _ => 0)) fun sz2 sl2 kd2 P2 I2 =>
  cal (j2_init z em sz2 sl2 kd2 P2 I2 sz) fun u6 sz5 sl5 kd5 P5 I5 =>
  chk (Shp z kd5 ∧ Ext kd2 kd5) (
  (x5_next I5 z a).bind fun r10 =>
  lp (fun again13 (j12 : Nat × Nat × Kd × Ptr × Mem) =>
  chk (Shp z j12.2.2.1 ∧ Ext kd5 j12.2.2.1) (
  if (j12.2.2.2.2 a 4) = 0 then
  some (.inr sz, j12.1, j12.2.1, j12.2.2.1, j12.2.2.2.1, j12.2.2.2.2)
  else
  (x0_isIn (j12.2.2.2.2 a 4) (nI 7) (nI 9)).bind fun r18 =>
  if (bI r18) = 0 then
  thrF z j12.1 j12.2.1 j12.2.2.1 j12.2.2.2.1 j12.2.2.2.2 a (nI 1)
  else
  (j2_size j12.2.2.2.2 sz).bind fun r19 =>
  if r19 = (nI 16) then
  thrF z j12.1 j12.2.1 j12.2.2.1 j12.2.2.2.1 j12.2.2.2.2 a (nI 3)
  else
  nm (up2 j12.2.2.2.2 a 6 (nI 0)) fun I21 =>
  (x5_next I21 z a).bind fun r22 =>
  thr (x5_sum z j12.1 j12.2.1 j12.2.2.1 j12.2.2.2.1 r22 a) fun v25 sz24 sl24 kd24 P24 I24 =>
  chk (Shp z kd24 ∧ Ext j12.2.2.1 kd24) (
  jn (fun (j29 : Option Nat × Nat × Nat × Kd × Ptr × Mem) =>
  chk (Shp z j29.2.2.2.1 ∧ Ext kd24 j29.2.2.2.1) (
  thr (x5_must z j29.2.1 j29.2.2.1 j29.2.2.2.1 j29.2.2.2.2.1 j29.2.2.2.2.2 a (nI 59)) fun v36 sz35 sl35 kd35 P35 I35 =>
  chk (Shp z kd35 ∧ Ext j29.2.2.2.1 kd35) (
  (al z kd35 sz35).bind fun _ =>
  nmA (sz35 + 1) (sl35 + 3) (upA kd35 sz35 (11, 0, 0)) (upA P35 sz35 (fun _ => none)) (upA I35 sz35 (fun _ => 0)) fun sz41 sl41 kd41 P41 I41 =>
  cal (x12_init z sz41 sl41 kd41 P41 I41 sz35 (j12.2.2.2.2 a 4) v25 j29.1) fun u46 sz45 sl45 kd45 P45 I45 =>
  chk (Shp z kd45 ∧ Ext kd41 kd45) (
  cal (j2_addA z em sz45 sl45 kd45 P45 I45 sz sz35) fun v52 sz51 sl51 kd51 P51 I51 =>
  chk (Shp z kd51 ∧ Ext kd45 kd51) (
  again13 (sz51, sl51, kd51, P51, I51)))))) (fun k30 =>
  if (I24 a 4) = (nI 3) then
  (x5_next I24 z a).bind fun r56 =>
  thr (x5_any12 z sz24 sl24 kd24 P24 r56 a) fun v59 sz58 sl58 kd58 P58 I58 =>
  chk (Shp z kd58 ∧ Ext kd24 kd58) (
  k30 ((some v59), sz58, sl58, kd58, P58, I58))
  else
  k30 (none, sz24, sl24, kd24, P24, I24))))) fuel (sz5, sl5, kd5, P5, r10))
theorem wdb_x5_law : yX5_law.cls = RX5 ∧ yX5_law.cls ≠ "java/lang/invoke/MethodHandle" ∧ yX5_law.cls ≠ "java/lang/invoke/VarHandle" ∧ (parseMethodDescriptor yX5_law.desc).map (fun d => d.parameters.length) = some 0 := by decide
set_option maxRecDepth 100000 in
theorem ct_x5_law {cs : Cs} {z : Nat} (sz sl : Nat) (kd : Kd) (P : Ptr) (I : Mem) (a : Nat) (ha : kd a = (5, 0, 0)) : CtE cs z yX5_law cX5_law 5 (some (.object "java/util/ArrayList")) (69) (2061) [.ref a] (sz, sl, kd, P, I) (fun r => some (.ref r)) (x5_law z (cs 300) sz sl kd P I a) := by
  refine CtE.ofM RX5 (by decide) rfl (Nat.le_of_ble_eq_true rfl) ?_
  intro l D p e s m args below meth c hlt hsh K hr hlk hxt hK
  refine g_sub (ls' := [(0, .ref a)]) [0] rfl ?_
  refine ga_new K hK hsh (ci := 18) (18, 0, 0) 3 in_J2 tyJ2 tyJ2_ok q529 q222 q156 rfl (fun _ => rfl) (by decide) (by show plainK 18; unfold plainK; omega) dX5_law_0 rfl (fun hn1 hsh => ?_)
  refine g_nmA (fun sz2 sl2 kd2 P2 I2 _ _ he2 _ _ => ?_)
  replace hsh : Shp z kd2 := by rw [he2]; exact hsh
  have hk3 := kd_keep hn1 he2 (Nat.le_of_ble_eq_true rfl) ha
  refine g_dup K rfl 4 dX5_law_3 rfl ?_
  have hp4 := (kd_new he2)
  refine gb_callI K hK hsh hlt 7 (ct_j2_init sz2 sl2 kd2 P2 I2 sz hp4) (lw_meth q225) q156 q530 q224 rfl wdb_j2_init (by decide) rfl (Nat.le_of_ble_eq_true rfl) dX5_law_4 rfl (fun u6 sz5 sl5 kd5 P5 I5 _ => ?_)
  try dsimp only
  refine g_chk (fun hc => ?_)
  obtain ⟨hsh, hx7⟩ := hc
  have hk8 := hx7.at hk3 (Nat.le_of_ble_eq_true rfl)
  have hk9 := hx7.at hp4 (Nat.le_of_ble_eq_true rfl)
  refine g_astoren K [(0, .ref a), (1, .ref sz)] [1, 0] rfl (by decide) rfl 8 dX5_law_7 rfl ?_
  refine g_aloadn K 0 rfl rfl 9 dX5_law_8 rfl ?_
  refine gx_call K hK hsh 12 (ctx_x5_next P5 I5 a hk8) (lw_V q531 q533 qs2 q163 q534) wd_x5_next hk8 rfl (Nat.le_of_ble_eq_true rfl) rfl (by decide) rfl (Nat.le_of_ble_eq_true rfl) dX5_law_9 rfl (fun r10 hr11 => ?_)
  refine gx_of ?_
  refine g_lp (head := 12) (L := fun (j12 : Nat × Nat × Kd × Ptr × Mem) => [(0, .ref a), (1, .ref sz)]) (sf := fun j12 => []) (mf := fun j12 => (j12.1, j12.2.1, j12.2.2.1, j12.2.2.2.1, j12.2.2.2.2)) (fun again13 h14 j12 => ?_) fuel (sz5, sl5, kd5, P5, r10)
  try dsimp only
  refine gy_of ?_
  refine g_chk (fun hc => ?_)
  obtain ⟨hsh, hx15⟩ := hc
  have hk16 := hx15.at hk8 (Nat.le_of_ble_eq_true rfl)
  have hk17 := hx15.at hk9 (Nat.le_of_ble_eq_true rfl)
  refine g_aloadn K 0 rfl rfl 13 dX5_law_12 rfl ?_
  refine gx_get K hK hsh 4 (v := .int (j12.2.2.2.2 a 4)) 16 in_X5 hk16 rfl (Nat.le_of_ble_eq_true rfl) rfl (by decide) (Or.inl q500) rfl dX5_law_13 rfl ?_
  refine g_if_eq K 19 133 dX5_law_16 rfl (by decide) (fun _ => ?_) (fun _ => ?_)
  · refine g_aloadn K 1 rfl rfl 134 dX5_law_133 rfl ?_
    exact ge_aret K hr (Or.inl ⟨_, rfl⟩) hlk dX5_law_134 rfl
  · refine g_aloadn K 0 rfl rfl 20 dX5_law_19 rfl ?_
    refine gx_get K hK hsh 4 (v := .int (j12.2.2.2.2 a 4)) 23 in_X5 hk16 rfl (Nat.le_of_ble_eq_true rfl) rfl (by decide) (Or.inl q500) rfl dX5_law_20 rfl ?_
    refine g_bipush K (nI 7) bp_7 25 dX5_law_23 rfl ?_
    refine g_bipush K (nI 9) bp_9 27 dX5_law_25 rfl ?_
    refine g_callSN K 30 (cts_x0_isIn (j12.2.2.2.2 a 4) (nI 7) (nI 9)) (nm_q543 hK.2) q480 q151 q479 wds_x0_isIn (by decide) rfl (Nat.le_of_ble_eq_true rfl) dX5_law_27 rfl (fun r18 _ => ?_)
    refine g_if_ne K 33 46 dX5_law_30 rfl (by decide) (fun _ => ?_) (fun _ => ?_)
    · exact ge_throwF K hK hsh hlt hxt hlk (nI 1) ic_1 hk16 (j := 0) rfl (by decide) dX5_law_33 dX5_law_36 dX5_law_37 dX5_law_38 dX5_law_39 dX5_law_42 dX5_law_45
    · refine g_aloadn K 1 rfl rfl 47 dX5_law_46 rfl ?_
      refine gx_call K hK hsh 50 (ctx_j2_size j12.2.2.2.1 j12.2.2.2.2 sz hk17) (lw_V q711 q712 q713 q156 q714) wd_j2_size hk17 rfl (Nat.le_of_ble_eq_true rfl) rfl (by decide) rfl (Nat.le_of_ble_eq_true rfl) dX5_law_47 rfl (fun r19 hr20 => ?_)
      refine g_bipush K (nI 16) bp_16 52 dX5_law_50 rfl ?_
      refine g_icmp_ne K 55 68 dX5_law_52 rfl (by decide) (fun _ => ?_) (fun _ => ?_)
      · exact ge_throwF K hK hsh hlt hxt hlk (nI 3) ic_3 hk16 (j := 0) rfl (by decide) dX5_law_55 dX5_law_58 dX5_law_59 dX5_law_60 dX5_law_61 dX5_law_64 dX5_law_67
      · refine g_aloadn K 0 rfl rfl 69 dX5_law_68 rfl ?_
        refine gx_get K hK hsh 4 (v := .int (j12.2.2.2.2 a 4)) 72 in_X5 hk16 rfl (Nat.le_of_ble_eq_true rfl) rfl (by decide) (Or.inl q500) rfl dX5_law_69 rfl ?_
        refine g_istoren K [(0, .ref a), (1, .ref sz), (2, .int (j12.2.2.2.2 a 4))] [1, 2, 0] rfl (by decide) rfl 73 dX5_law_72 rfl ?_
        refine g_aloadn K 0 rfl rfl 74 dX5_law_73 rfl ?_
        refine g_iconst K (nI 0) ic_0 75 dX5_law_74 rfl ?_
        refine gx_put K hK hsh 6 (ty := .int) 78 in_X5 tyX5 tyX5_ok nmX5 hk16 rfl rfl (Nat.le_of_ble_eq_true rfl) rfl (by decide) (Or.inl q502) rfl (by decide +kernel) rfl rfl (Nat.le_of_ble_eq_true rfl) dX5_law_75 rfl (fun I21 _ => ?_)
        refine g_aloadn K 0 rfl rfl 79 dX5_law_78 rfl ?_
        refine gx_call K hK hsh 82 (ctx_x5_next j12.2.2.2.1 I21 a hk16) (lw_V q531 q533 qs2 q163 q534) wd_x5_next hk16 rfl (Nat.le_of_ble_eq_true rfl) rfl (by decide) rfl (Nat.le_of_ble_eq_true rfl) dX5_law_79 rfl (fun r22 hr23 => ?_)
        refine g_aloadn K 0 rfl rfl 83 dX5_law_82 rfl ?_
        refine ge_callV K hK hsh hlt hxt hlk 86 (ct_x5_sum j12.1 j12.2.1 j12.2.2.1 j12.2.2.2.1 r22 a hk16) (lw_V q715 q717 qs13 q163 q718) wdb_x5_sum hk16 rfl (Nat.le_of_ble_eq_true rfl) rfl (by decide) rfl (Nat.le_of_ble_eq_true rfl) dX5_law_83 rfl (fun v25 sz24 sl24 kd24 P24 I24 _ => ?_)
        try dsimp only
        refine g_chk (fun hc => ?_)
        obtain ⟨hsh, hx26⟩ := hc
        have hk27 := hx26.at hk16 (Nat.le_of_ble_eq_true rfl)
        have hk28 := hx26.at hk17 (Nat.le_of_ble_eq_true rfl)
        refine g_astoren K [(0, .ref a), (1, .ref sz), (2, .int (j12.2.2.2.2 a 4)), (3, .ref v25)] [1, 2, 3, 0] rfl (by decide) rfl 87 dX5_law_86 rfl ?_
        refine g_null K 88 dX5_law_87 rfl ?_
        refine g_astore0 K [(0, .ref a), (1, .ref sz), (2, .int (j12.2.2.2.2 a 4)), (3, .ref v25), (4, .null)] [1, 2, 3, 4, 0] (by decide) rfl 90 dX5_law_88 rfl ?_
        refine g_aloadn K 0 rfl rfl 91 dX5_law_90 rfl ?_
        refine gx_get K hK hsh 4 (v := .int (I24 a 4)) 94 in_X5 hk27 rfl (Nat.le_of_ble_eq_true rfl) rfl (by decide) (Or.inl q500) rfl dX5_law_91 rfl ?_
        refine g_iconst K (nI 3) ic_3 95 dX5_law_94 rfl ?_
        refine gx_of ?_
        refine g_jn (head := 108) (L := fun (j29 : Option Nat × Nat × Nat × Kd × Ptr × Mem) => [(0, .ref a), (1, .ref sz), (2, .int (j12.2.2.2.2 a 4)), (3, .ref v25), (4, (va_rf j29.1))]) (sf := fun j29 => []) (mf := fun j29 => (j29.2.1, j29.2.2.1, j29.2.2.2.1, j29.2.2.2.2.1, j29.2.2.2.2.2)) (fun j29 => ?_) (fun k30 h31 => ?_)
        · try dsimp only
          refine gy_of ?_
          refine g_chk (fun hc => ?_)
          obtain ⟨hsh, hx32⟩ := hc
          have hk33 := hx32.at hk27 (Nat.le_of_ble_eq_true rfl)
          have hk34 := hx32.at hk28 (Nat.le_of_ble_eq_true rfl)
          refine g_aloadn K 0 rfl rfl 109 dX5_law_108 rfl ?_
          refine g_bipush K (nI 59) bp_59 111 dX5_law_109 rfl ?_
          refine ge_callV K hK hsh hlt hxt hlk 114 (ct_x5_must j29.2.1 j29.2.2.1 j29.2.2.2.1 j29.2.2.2.2.1 j29.2.2.2.2.2 a (nI 59) hk33) (lw_V q796 q798 qs21 q163 q799) wdb_x5_must hk33 rfl (Nat.le_of_ble_eq_true rfl) rfl (by decide) rfl (Nat.le_of_ble_eq_true rfl) dX5_law_111 rfl (fun v36 sz35 sl35 kd35 P35 I35 _ => ?_)
          try dsimp only
          refine g_chk (fun hc => ?_)
          obtain ⟨hsh, hx37⟩ := hc
          have hk38 := hx37.at hk33 (Nat.le_of_ble_eq_true rfl)
          have hk39 := hx37.at hk34 (Nat.le_of_ble_eq_true rfl)
          refine g_aloadn K 1 rfl rfl 115 dX5_law_114 rfl ?_
          refine ga_new K hK hsh (ci := 11) (11, 0, 0) 118 in_X12 tyX12 tyX12_ok q800 q801 q175 rfl (fun _ => rfl) (by decide) (by show plainK 11; unfold plainK; omega) dX5_law_115 rfl (fun hn40 hsh => ?_)
          refine g_nmA (fun sz41 sl41 kd41 P41 I41 _ _ he41 _ _ => ?_)
          replace hsh : Shp z kd41 := by rw [he41]; exact hsh
          have hk42 := kd_keep hn40 he41 (Nat.le_of_ble_eq_true rfl) hk38
          have hk43 := kd_keep hn40 he41 (Nat.le_of_ble_eq_true rfl) hk39
          refine g_dup K rfl 119 dX5_law_118 rfl ?_
          refine g_iloadn K 2 rfl rfl 120 dX5_law_119 rfl ?_
          refine g_aloadn K 3 rfl rfl 121 dX5_law_120 rfl ?_
          refine g_aloadq K 4 rfl 123 dX5_law_121 rfl ?_
          have hp44 := (kd_new he41)
          refine gb_callI K hK hsh hlt 126 (ct_x12_init sz41 sl41 kd41 P41 I41 sz35 (j12.2.2.2.2 a 4) v25 j29.1 hp44) (lw_meth q804) q175 q802 q803 rfl wdb_x12_init (by decide) rfl (Nat.le_of_ble_eq_true rfl) dX5_law_123 rfl (fun u46 sz45 sl45 kd45 P45 I45 _ => ?_)
          try dsimp only
          refine g_chk (fun hc => ?_)
          obtain ⟨hsh, hx47⟩ := hc
          have hk48 := hx47.at hk42 (Nat.le_of_ble_eq_true rfl)
          have hk49 := hx47.at hk43 (Nat.le_of_ble_eq_true rfl)
          have hk50 := hx47.at hp44 (Nat.le_of_ble_eq_true rfl)
          refine gb_callV K hK hsh hlt 129 (ct_j2_addA sz45 sl45 kd45 P45 I45 sz sz35 hk49) (lw_V q819 q820 q821 q156 q822) wdb_j2_add hk49 rfl (Nat.le_of_ble_eq_true rfl) rfl (by decide) rfl (Nat.le_of_ble_eq_true rfl) dX5_law_126 rfl (fun v52 sz51 sl51 kd51 P51 I51 _ => ?_)
          try dsimp only
          refine g_chk (fun hc => ?_)
          obtain ⟨hsh, hx53⟩ := hc
          have hk54 := hx53.at hk48 (Nat.le_of_ble_eq_true rfl)
          have hk55 := hx53.at hk49 (Nat.le_of_ble_eq_true rfl)
          refine g_pop K rfl 130 dX5_law_129 rfl ?_
          refine g_goto K 12 dX5_law_130 (by decide) ?_
          refine g_sub (ls' := [(0, .ref a), (1, .ref sz)]) [0, 1] rfl ?_
          exact gx_of (h14 (sz51, sl51, kd51, P51, I51))
        · refine gy_of ?_
          refine g_icmp_ne K 98 108 dX5_law_95 rfl (by decide) (fun _ => ?_) (fun _ => ?_)
          · refine g_aloadn K 0 rfl rfl 99 dX5_law_98 rfl ?_
            refine gx_call K hK hsh 102 (ctx_x5_next P24 I24 a hk27) (lw_V q531 q533 qs2 q163 q534) wd_x5_next hk27 rfl (Nat.le_of_ble_eq_true rfl) rfl (by decide) rfl (Nat.le_of_ble_eq_true rfl) dX5_law_99 rfl (fun r56 hr57 => ?_)
            refine g_aloadn K 0 rfl rfl 103 dX5_law_102 rfl ?_
            refine ge_callV K hK hsh hlt hxt hlk 106 (ct_x5_any12 sz24 sl24 kd24 P24 r56 a hk27) (lw_V q770 q772 qs17 q163 q773) wdb_x5_any hk27 rfl (Nat.le_of_ble_eq_true rfl) rfl (by decide) rfl (Nat.le_of_ble_eq_true rfl) dX5_law_103 rfl (fun v59 sz58 sl58 kd58 P58 I58 _ => ?_)
            try dsimp only
            refine g_chk (fun hc => ?_)
            obtain ⟨hsh, hx60⟩ := hc
            have hk61 := hx60.at hk27 (Nat.le_of_ble_eq_true rfl)
            have hk62 := hx60.at hk28 (Nat.le_of_ble_eq_true rfl)
            refine g_astore K [(0, .ref a), (1, .ref sz), (2, .int (j12.2.2.2.2 a 4)), (3, .ref v25), (4, .ref v59)] [1, 2, 3, 4, 0] (by decide) rfl 108 dX5_law_106 rfl ?_
            exact gx_of (h31 ((some v59), sz58, sl58, kd58, P58, I58))
          · exact gx_of (h31 (none, sz24, sl24, kd24, P24, I24))
/-- GingerRents$Reader.weather(I)LGingerRents$Entry; -/
noncomputable def x5_weather (z : Nat) (sz sl : Nat) (kd : Kd) (P : Ptr) (I : Mem) (a : Nat) (x1 : Int32) : Option ((Nat ⊕ Nat) × Sy) := moE sz sl <|
  (x0_isIn (I a 4) (nI 11) (nI 13)).bind fun r1 =>
  if (bI r1) = 0 then
  thrF z sz sl kd P I a (nI 1)
  else
  (x5_next I z a).bind fun r2 =>
  if (I a 4) = (nI 11) then
  (al z kd sz).bind fun _ =>
  nmA (sz + 1) (sl + 2) (upA kd sz (12, 0, 0)) (upA P sz (fun _ => none)) (upA r2 sz (fun _ => 0)) fun sz20 sl20 kd20 P20 I20 =>
  thr (x5_number z sz20 sl20 kd20 P20 I20 a (nI 0) (nI 9)) fun v24 sz23 sl23 kd23 P23 I23 =>
  chk (Shp z kd23 ∧ Ext kd20 kd23) (
  cal (x14_init z sz23 sl23 kd23 P23 I23 sz x1 v24) fun u29 sz28 sl28 kd28 P28 I28 =>
  chk (Shp z kd28 ∧ Ext kd23 kd28) (
  some (.inr sz, sz28, sl28, kd28, P28, I28)))
  else
  (al z kd sz).bind fun _ =>
  nmA (sz + 1) (sl + 2) (upA kd sz (13, 0, 0)) (upA P sz (fun _ => none)) (upA r2 sz (fun _ => 0)) fun sz5 sl5 kd5 P5 I5 =>
  jn (fun (j8 : Int32 × Nat × Nat × Kd × Ptr × Mem) =>
  chk (Shp z j8.2.2.2.1 ∧ Ext kd5 j8.2.2.2.1) (
  cal (x15_init z j8.2.1 j8.2.2.1 j8.2.2.2.1 j8.2.2.2.2.1 j8.2.2.2.2.2 sz x1 j8.1) fun u15 sz14 sl14 kd14 P14 I14 =>
  chk (Shp z kd14 ∧ Ext j8.2.2.2.1 kd14) (
  some (.inr sz, sz14, sl14, kd14, P14, I14)))) (fun k9 =>
  if (I a 4) = (nI 12) then
  k9 ((nI 1), sz5, sl5, kd5, P5, I5)
  else
  k9 ((nI 0), sz5, sl5, kd5, P5, I5))
theorem wdb_x5_weather : yX5_weather.cls = RX5 ∧ yX5_weather.cls ≠ "java/lang/invoke/MethodHandle" ∧ yX5_weather.cls ≠ "java/lang/invoke/VarHandle" ∧ (parseMethodDescriptor yX5_weather.desc).map (fun d => d.parameters.length) = some 1 := by decide
set_option maxRecDepth 100000 in
theorem ct_x5_weather {cs : Cs} {z : Nat} (sz sl : Nat) (kd : Kd) (P : Ptr) (I : Mem) (a : Nat) (x1 : Int32) (ha : kd a = (5, 0, 0)) : CtE cs z yX5_weather cX5_weather 3 (some (.object "GingerRents$Entry")) (11) (232) [.ref a, .int x1] (sz, sl, kd, P, I) (fun r => some (.ref r)) (x5_weather z sz sl kd P I a x1) := by
  refine CtE.ofM RX5 (by decide) rfl (Nat.le_of_ble_eq_true rfl) ?_
  intro l D p e s m args below meth c hlt hsh K hr hlk hxt hK
  refine g_sub (ls' := [(0, .ref a), (1, .int x1)]) [0, 1] rfl ?_
  refine g_aloadn K 0 rfl rfl 1 dX5_weather_0 rfl ?_
  refine gx_get K hK hsh 4 (v := .int (I a 4)) 4 in_X5 ha rfl (Nat.le_of_ble_eq_true rfl) rfl (by decide) (Or.inl q500) rfl dX5_weather_1 rfl ?_
  refine g_istoren K [(0, .ref a), (1, .int x1), (2, .int (I a 4))] [1, 2, 0] rfl (by decide) rfl 5 dX5_weather_4 rfl ?_
  refine g_iloadn K 2 rfl rfl 6 dX5_weather_5 rfl ?_
  refine g_bipush K (nI 11) bp_11 8 dX5_weather_6 rfl ?_
  refine g_bipush K (nI 13) bp_13 10 dX5_weather_8 rfl ?_
  refine g_callSN K 13 (cts_x0_isIn (I a 4) (nI 11) (nI 13)) (nm_q543 hK.2) q480 q151 q479 wds_x0_isIn (by decide) rfl (Nat.le_of_ble_eq_true rfl) dX5_weather_10 rfl (fun r1 _ => ?_)
  refine g_if_ne K 16 29 dX5_weather_13 rfl (by decide) (fun _ => ?_) (fun _ => ?_)
  · exact ge_throwF K hK hsh hlt hxt hlk (nI 1) ic_1 ha (j := 0) rfl (by decide) dX5_weather_16 dX5_weather_19 dX5_weather_20 dX5_weather_21 dX5_weather_22 dX5_weather_25 dX5_weather_28
  · refine g_aloadn K 0 rfl rfl 30 dX5_weather_29 rfl ?_
    refine gx_call K hK hsh 33 (ctx_x5_next P I a ha) (lw_V q531 q533 qs2 q163 q534) wd_x5_next ha rfl (Nat.le_of_ble_eq_true rfl) rfl (by decide) rfl (Nat.le_of_ble_eq_true rfl) dX5_weather_30 rfl (fun r2 hr3 => ?_)
    refine g_iloadn K 2 rfl rfl 34 dX5_weather_33 rfl ?_
    refine g_bipush K (nI 11) bp_11 36 dX5_weather_34 rfl ?_
    refine g_icmp_ne K 39 57 dX5_weather_36 rfl (by decide) (fun _ => ?_) (fun _ => ?_)
    · refine ga_new K hK hsh (ci := 12) (12, 0, 0) 42 in_X14 tyX14 tyX14_ok q894 q895 q180 rfl (fun _ => rfl) (by decide) (by show plainK 12; unfold plainK; omega) dX5_weather_39 rfl (fun hn19 hsh => ?_)
      refine g_nmA (fun sz20 sl20 kd20 P20 I20 _ _ he20 _ _ => ?_)
      replace hsh : Shp z kd20 := by rw [he20]; exact hsh
      have hk21 := kd_keep hn19 he20 (Nat.le_of_ble_eq_true rfl) ha
      refine g_dup K rfl 43 dX5_weather_42 rfl ?_
      refine g_iloadn K 1 rfl rfl 44 dX5_weather_43 rfl ?_
      refine g_aloadn K 0 rfl rfl 45 dX5_weather_44 rfl ?_
      refine g_iconst K (nI 0) ic_0 46 dX5_weather_45 rfl ?_
      refine g_bipush K (nI 9) bp_9 48 dX5_weather_46 rfl ?_
      have hp22 := (kd_new he20)
      refine ge_callV K hK hsh hlt hxt hlk 51 (ct_x5_number sz20 sl20 kd20 P20 I20 a (nI 0) (nI 9) hk21) (lw_V q729 q731 qs16 q163 q732) wdb_x5_number hk21 rfl (Nat.le_of_ble_eq_true rfl) rfl (by decide) rfl (Nat.le_of_ble_eq_true rfl) dX5_weather_48 rfl (fun v24 sz23 sl23 kd23 P23 I23 _ => ?_)
      try dsimp only
      refine g_chk (fun hc => ?_)
      obtain ⟨hsh, hx25⟩ := hc
      have hk26 := hx25.at hk21 (Nat.le_of_ble_eq_true rfl)
      have hk27 := hx25.at hp22 (Nat.le_of_ble_eq_true rfl)
      refine gb_callI K hK hsh hlt 54 (ct_x14_init sz23 sl23 kd23 P23 I23 sz x1 v24 hk27) (lw_meth q898) q180 q896 q897 rfl wdb_x14_init (by decide) rfl (Nat.le_of_ble_eq_true rfl) dX5_weather_51 rfl (fun u29 sz28 sl28 kd28 P28 I28 _ => ?_)
      try dsimp only
      refine g_chk (fun hc => ?_)
      obtain ⟨hsh, hx30⟩ := hc
      have hk31 := hx30.at hk26 (Nat.le_of_ble_eq_true rfl)
      have hk32 := hx30.at hk27 (Nat.le_of_ble_eq_true rfl)
      refine g_goto K 76 dX5_weather_54 (by decide) ?_
      exact ge_aret K hr (Or.inl ⟨_, rfl⟩) hlk dX5_weather_76 rfl
    · refine ga_new K hK hsh (ci := 13) (13, 0, 0) 60 in_X15 tyX15 tyX15_ok q910 q911 q181 rfl (fun _ => rfl) (by decide) (by show plainK 13; unfold plainK; omega) dX5_weather_57 rfl (fun hn4 hsh => ?_)
      refine g_nmA (fun sz5 sl5 kd5 P5 I5 _ _ he5 _ _ => ?_)
      replace hsh : Shp z kd5 := by rw [he5]; exact hsh
      have hk6 := kd_keep hn4 he5 (Nat.le_of_ble_eq_true rfl) ha
      refine g_dup K rfl 61 dX5_weather_60 rfl ?_
      refine g_iloadn K 1 rfl rfl 62 dX5_weather_61 rfl ?_
      refine g_iloadn K 2 rfl rfl 63 dX5_weather_62 rfl ?_
      refine g_bipush K (nI 12) bp_12 65 dX5_weather_63 rfl ?_
      have hp7 := (kd_new he5)
      refine gx_of ?_
      refine g_jn (head := 73) (L := fun (j8 : Int32 × Nat × Nat × Kd × Ptr × Mem) => [(0, .ref a)]) (sf := fun j8 => [.int j8.1, .int x1, .ref sz, .ref sz]) (mf := fun j8 => (j8.2.1, j8.2.2.1, j8.2.2.2.1, j8.2.2.2.2.1, j8.2.2.2.2.2)) (fun j8 => ?_) (fun k9 h10 => ?_)
      · try dsimp only
        refine gy_of ?_
        refine g_chk (fun hc => ?_)
        obtain ⟨hsh, hx11⟩ := hc
        have hk12 := hx11.at hk6 (Nat.le_of_ble_eq_true rfl)
        have hk13 := hx11.at hp7 (Nat.le_of_ble_eq_true rfl)
        refine gb_callI K hK hsh hlt 76 (ct_x15_init j8.2.1 j8.2.2.1 j8.2.2.2.1 j8.2.2.2.2.1 j8.2.2.2.2.2 sz x1 j8.1 hk13) (lw_meth q914) q181 q912 q913 rfl wdb_x15_init (by decide) rfl (Nat.le_of_ble_eq_true rfl) dX5_weather_73 rfl (fun u15 sz14 sl14 kd14 P14 I14 _ => ?_)
        try dsimp only
        refine g_chk (fun hc => ?_)
        obtain ⟨hsh, hx16⟩ := hc
        have hk17 := hx16.at hk12 (Nat.le_of_ble_eq_true rfl)
        have hk18 := hx16.at hk13 (Nat.le_of_ble_eq_true rfl)
        exact ge_aret K hr (Or.inl ⟨_, rfl⟩) hlk dX5_weather_76 rfl
      · refine gy_of ?_
        refine g_icmp_ne K 68 72 dX5_weather_65 rfl (by decide) (fun _ => ?_) (fun _ => ?_)
        · refine g_iconst K (nI 1) ic_1 69 dX5_weather_68 rfl ?_
          refine g_goto K 73 dX5_weather_69 (by decide) ?_
          refine g_sub (ls' := [(0, .ref a)]) [0] rfl ?_
          exact gx_of (h10 ((nI 1), sz5, sl5, kd5, P5, I5))
        · refine g_iconst K (nI 0) ic_0 73 dX5_weather_72 rfl ?_
          refine g_sub (ls' := [(0, .ref a)]) [0] rfl ?_
          exact gx_of (h10 ((nI 0), sz5, sl5, kd5, P5, I5))
/-- GingerRents$Reader.order(I)LGingerRents$Entry; -/
noncomputable def x5_order (z : Nat) (sz sl : Nat) (kd : Kd) (P : Ptr) (I : Mem) (a : Nat) (x1 : Int32) : Option ((Nat ⊕ Nat) × Sy) := moE sz sl <|
  (x0_isIn (I a 4) (nI 14) (nI 17)).bind fun r1 =>
  if (bI r1) = 0 then
  thrF z sz sl kd P I a (nI 1)
  else
  (x5_next I z a).bind fun r2 =>
  thr (x5_house z sz sl kd P r2 a) fun v5 sz4 sl4 kd4 P4 I4 =>
  chk (Shp z kd4 ∧ Ext kd kd4) (
  nm (I a 4) fun v8 =>
  if v8 = (nI 14) then
  (al z kd4 sz4).bind fun _ =>
  nmA (sz4 + 1) (sl4 + 3) (upA kd4 sz4 (14, 0, 0)) (upA P4 sz4 (fun _ => none)) (upA I4 sz4 (fun _ => 0)) fun sz10 sl10 kd10 P10 I10 =>
  thr (x5_number z sz10 sl10 kd10 P10 I10 a (nI 1) (nI 99)) fun v14 sz13 sl13 kd13 P13 I13 =>
  chk (Shp z kd13 ∧ Ext kd10 kd13) (
  cal (x16_init z sz13 sl13 kd13 P13 I13 sz4 x1 v5 v14) fun u19 sz18 sl18 kd18 P18 I18 =>
  chk (Shp z kd18 ∧ Ext kd13 kd18) (
  some (.inr sz4, sz18, sl18, kd18, P18, I18)))
  else
  if v8 = (nI 15) then
  thr (x5_number z sz4 sl4 kd4 P4 I4 a (nI 0) (nI 3)) fun v25 sz24 sl24 kd24 P24 I24 =>
  chk (Shp z kd24 ∧ Ext kd4 kd24) (
  (al z kd24 sz24).bind fun _ =>
  nmA (sz24 + 1) (sl24 + 4) (upA kd24 sz24 (15, 0, 0)) (upA P24 sz24 (fun _ => none)) (upA I24 sz24 (fun _ => 0)) fun sz29 sl29 kd29 P29 I29 =>
  thr (x5_number z sz29 sl29 kd29 P29 I29 a (nI 1) (nI 99)) fun v33 sz32 sl32 kd32 P32 I32 =>
  chk (Shp z kd32 ∧ Ext kd29 kd32) (
  cal (x17_init z sz32 sl32 kd32 P32 I32 sz24 x1 v5 v25 v33) fun u38 sz37 sl37 kd37 P37 I37 =>
  chk (Shp z kd37 ∧ Ext kd32 kd37) (
  some (.inr sz24, sz37, sl37, kd37, P37, I37))))
  else
  if v8 = (nI 16) then
  (al z kd4 sz4).bind fun _ =>
  nmA (sz4 + 1) (sl4 + 2) (upA kd4 sz4 (16, 0, 0)) (upA P4 sz4 (fun _ => none)) (upA I4 sz4 (fun _ => 0)) fun sz44 sl44 kd44 P44 I44 =>
  cal (x18_init z sz44 sl44 kd44 P44 I44 sz4 x1 v5) fun u48 sz47 sl47 kd47 P47 I47 =>
  chk (Shp z kd47 ∧ Ext kd44 kd47) (
  some (.inr sz4, sz47, sl47, kd47, P47, I47))
  else
  (al z kd4 sz4).bind fun _ =>
  nmA (sz4 + 1) (sl4 + 2) (upA kd4 sz4 (17, 0, 0)) (upA P4 sz4 (fun _ => none)) (upA I4 sz4 (fun _ => 0)) fun sz54 sl54 kd54 P54 I54 =>
  cal (x19_init z sz54 sl54 kd54 P54 I54 sz4 x1 v5) fun u58 sz57 sl57 kd57 P57 I57 =>
  chk (Shp z kd57 ∧ Ext kd54 kd57) (
  some (.inr sz4, sz57, sl57, kd57, P57, I57)))
theorem wdb_x5_order : yX5_order.cls = RX5 ∧ yX5_order.cls ≠ "java/lang/invoke/MethodHandle" ∧ yX5_order.cls ≠ "java/lang/invoke/VarHandle" ∧ (parseMethodDescriptor yX5_order.desc).map (fun d => d.parameters.length) = some 1 := by decide
set_option maxRecDepth 100000 in
theorem ct_x5_order {cs : Cs} {z : Nat} (sz sl : Nat) (kd : Kd) (P : Ptr) (I : Mem) (a : Nat) (x1 : Int32) (ha : kd a = (5, 0, 0)) : CtE cs z yX5_order cX5_order 5 (some (.object "GingerRents$Entry")) (12) (252) [.ref a, .int x1] (sz, sl, kd, P, I) (fun r => some (.ref r)) (x5_order z sz sl kd P I a x1) := by
  refine CtE.ofM RX5 (by decide) rfl (Nat.le_of_ble_eq_true rfl) ?_
  intro l D p e s m args below meth c hlt hsh K hr hlk hxt hK
  refine g_sub (ls' := [(0, .ref a), (1, .int x1)]) [0, 1] rfl ?_
  refine g_aloadn K 0 rfl rfl 1 dX5_order_0 rfl ?_
  refine gx_get K hK hsh 4 (v := .int (I a 4)) 4 in_X5 ha rfl (Nat.le_of_ble_eq_true rfl) rfl (by decide) (Or.inl q500) rfl dX5_order_1 rfl ?_
  refine g_istoren K [(0, .ref a), (1, .int x1), (2, .int (I a 4))] [1, 2, 0] rfl (by decide) rfl 5 dX5_order_4 rfl ?_
  refine g_iloadn K 2 rfl rfl 6 dX5_order_5 rfl ?_
  refine g_bipush K (nI 14) bp_14 8 dX5_order_6 rfl ?_
  refine g_bipush K (nI 17) bp_17 10 dX5_order_8 rfl ?_
  refine g_callSN K 13 (cts_x0_isIn (I a 4) (nI 14) (nI 17)) (nm_q543 hK.2) q480 q151 q479 wds_x0_isIn (by decide) rfl (Nat.le_of_ble_eq_true rfl) dX5_order_10 rfl (fun r1 _ => ?_)
  refine g_if_ne K 16 29 dX5_order_13 rfl (by decide) (fun _ => ?_) (fun _ => ?_)
  · exact ge_throwF K hK hsh hlt hxt hlk (nI 1) ic_1 ha (j := 0) rfl (by decide) dX5_order_16 dX5_order_19 dX5_order_20 dX5_order_21 dX5_order_22 dX5_order_25 dX5_order_28
  · refine g_aloadn K 0 rfl rfl 30 dX5_order_29 rfl ?_
    refine gx_call K hK hsh 33 (ctx_x5_next P I a ha) (lw_V q531 q533 qs2 q163 q534) wd_x5_next ha rfl (Nat.le_of_ble_eq_true rfl) rfl (by decide) rfl (Nat.le_of_ble_eq_true rfl) dX5_order_30 rfl (fun r2 hr3 => ?_)
    refine g_aloadn K 0 rfl rfl 34 dX5_order_33 rfl ?_
    refine ge_callV K hK hsh hlt hxt hlk 37 (ct_x5_house sz sl kd P r2 a ha) (lw_V q923 q925 qs27 q163 q926) wdb_x5_house ha rfl (Nat.le_of_ble_eq_true rfl) rfl (by decide) rfl (Nat.le_of_ble_eq_true rfl) dX5_order_34 rfl (fun v5 sz4 sl4 kd4 P4 I4 _ => ?_)
    try dsimp only
    refine g_chk (fun hc => ?_)
    obtain ⟨hsh, hx6⟩ := hc
    have hk7 := hx6.at ha (Nat.le_of_ble_eq_true rfl)
    refine g_istoren K [(0, .ref a), (1, .int x1), (2, .int (I a 4)), (3, .int v5)] [1, 2, 3, 0] rfl (by decide) rfl 38 dX5_order_37 rfl ?_
    refine g_iloadn K 2 rfl rfl 39 dX5_order_38 rfl ?_
    refine g_nm (fun v8 _ => ?_)
    refine g_tcase K (nI 14) 64 dX5_order_39 (by decide) (by decide) rfl (by decide) (fun _ => ?_) (fun hx23 => ?_)
    · refine ga_new K hK hsh (ci := 14) (14, 0, 0) 67 in_X16 tyX16 tyX16_ok q927 q928 q182 rfl (fun _ => rfl) (by decide) (by show plainK 14; unfold plainK; omega) dX5_order_64 rfl (fun hn9 hsh => ?_)
      refine g_nmA (fun sz10 sl10 kd10 P10 I10 _ _ he10 _ _ => ?_)
      replace hsh : Shp z kd10 := by rw [he10]; exact hsh
      have hk11 := kd_keep hn9 he10 (Nat.le_of_ble_eq_true rfl) hk7
      refine g_dup K rfl 68 dX5_order_67 rfl ?_
      refine g_iloadn K 1 rfl rfl 69 dX5_order_68 rfl ?_
      refine g_iloadn K 3 rfl rfl 70 dX5_order_69 rfl ?_
      refine g_aloadn K 0 rfl rfl 71 dX5_order_70 rfl ?_
      refine g_iconst K (nI 1) ic_1 72 dX5_order_71 rfl ?_
      refine g_bipush K (nI 99) bp_99 74 dX5_order_72 rfl ?_
      have hp12 := (kd_new he10)
      refine ge_callV K hK hsh hlt hxt hlk 77 (ct_x5_number sz10 sl10 kd10 P10 I10 a (nI 1) (nI 99) hk11) (lw_V q729 q731 qs16 q163 q732) wdb_x5_number hk11 rfl (Nat.le_of_ble_eq_true rfl) rfl (by decide) rfl (Nat.le_of_ble_eq_true rfl) dX5_order_74 rfl (fun v14 sz13 sl13 kd13 P13 I13 _ => ?_)
      try dsimp only
      refine g_chk (fun hc => ?_)
      obtain ⟨hsh, hx15⟩ := hc
      have hk16 := hx15.at hk11 (Nat.le_of_ble_eq_true rfl)
      have hk17 := hx15.at hp12 (Nat.le_of_ble_eq_true rfl)
      refine gb_callI K hK hsh hlt 80 (ct_x16_init sz13 sl13 kd13 P13 I13 sz4 x1 v5 v14 hk17) (lw_meth q931) q182 q929 q930 rfl wdb_x16_init (by decide) rfl (Nat.le_of_ble_eq_true rfl) dX5_order_77 rfl (fun u19 sz18 sl18 kd18 P18 I18 _ => ?_)
      try dsimp only
      refine g_chk (fun hc => ?_)
      obtain ⟨hsh, hx20⟩ := hc
      have hk21 := hx20.at hk16 (Nat.le_of_ble_eq_true rfl)
      have hk22 := hx20.at hk17 (Nat.le_of_ble_eq_true rfl)
      exact ge_aret K hr (Or.inl ⟨_, rfl⟩) hlk dX5_order_80 rfl
    · refine g_tcase K (nI 15) 81 dX5_order_39 (by decide) (by decide) rfl (by decide) (fun _ => ?_) (fun hx42 => ?_)
      · refine g_aloadn K 0 rfl rfl 82 dX5_order_81 rfl ?_
        refine g_iconst K (nI 0) ic_0 83 dX5_order_82 rfl ?_
        refine g_iconst K (nI 3) ic_3 84 dX5_order_83 rfl ?_
        refine ge_callV K hK hsh hlt hxt hlk 87 (ct_x5_number sz4 sl4 kd4 P4 I4 a (nI 0) (nI 3) hk7) (lw_V q729 q731 qs16 q163 q732) wdb_x5_number hk7 rfl (Nat.le_of_ble_eq_true rfl) rfl (by decide) rfl (Nat.le_of_ble_eq_true rfl) dX5_order_84 rfl (fun v25 sz24 sl24 kd24 P24 I24 _ => ?_)
        try dsimp only
        refine g_chk (fun hc => ?_)
        obtain ⟨hsh, hx26⟩ := hc
        have hk27 := hx26.at hk7 (Nat.le_of_ble_eq_true rfl)
        refine g_istore K [(0, .ref a), (1, .int x1), (3, .int v5), (4, .int v25)] [1, 2, 4, 0] (by decide) rfl 89 dX5_order_87 rfl ?_
        refine ga_new K hK hsh (ci := 15) (15, 0, 0) 92 in_X17 tyX17 tyX17_ok q939 q940 q183 rfl (fun _ => rfl) (by decide) (by show plainK 15; unfold plainK; omega) dX5_order_89 rfl (fun hn28 hsh => ?_)
        refine g_nmA (fun sz29 sl29 kd29 P29 I29 _ _ he29 _ _ => ?_)
        replace hsh : Shp z kd29 := by rw [he29]; exact hsh
        have hk30 := kd_keep hn28 he29 (Nat.le_of_ble_eq_true rfl) hk27
        refine g_dup K rfl 93 dX5_order_92 rfl ?_
        refine g_iloadn K 1 rfl rfl 94 dX5_order_93 rfl ?_
        refine g_iloadn K 2 rfl rfl 95 dX5_order_94 rfl ?_
        refine g_iload K 3 rfl 97 dX5_order_95 rfl ?_
        refine g_aloadn K 0 rfl rfl 98 dX5_order_97 rfl ?_
        refine g_iconst K (nI 1) ic_1 99 dX5_order_98 rfl ?_
        refine g_bipush K (nI 99) bp_99 101 dX5_order_99 rfl ?_
        have hp31 := (kd_new he29)
        refine ge_callV K hK hsh hlt hxt hlk 104 (ct_x5_number sz29 sl29 kd29 P29 I29 a (nI 1) (nI 99) hk30) (lw_V q729 q731 qs16 q163 q732) wdb_x5_number hk30 rfl (Nat.le_of_ble_eq_true rfl) rfl (by decide) rfl (Nat.le_of_ble_eq_true rfl) dX5_order_101 rfl (fun v33 sz32 sl32 kd32 P32 I32 _ => ?_)
        try dsimp only
        refine g_chk (fun hc => ?_)
        obtain ⟨hsh, hx34⟩ := hc
        have hk35 := hx34.at hk30 (Nat.le_of_ble_eq_true rfl)
        have hk36 := hx34.at hp31 (Nat.le_of_ble_eq_true rfl)
        refine gb_callI K hK hsh hlt 107 (ct_x17_init sz32 sl32 kd32 P32 I32 sz24 x1 v5 v25 v33 hk36) (lw_meth q943) q183 q941 q942 rfl wdb_x17_init (by decide) rfl (Nat.le_of_ble_eq_true rfl) dX5_order_104 rfl (fun u38 sz37 sl37 kd37 P37 I37 _ => ?_)
        try dsimp only
        refine g_chk (fun hc => ?_)
        obtain ⟨hsh, hx39⟩ := hc
        have hk40 := hx39.at hk35 (Nat.le_of_ble_eq_true rfl)
        have hk41 := hx39.at hk36 (Nat.le_of_ble_eq_true rfl)
        exact ge_aret K hr (Or.inl ⟨_, rfl⟩) hlk dX5_order_107 rfl
      · refine g_tcase K (nI 16) 108 dX5_order_39 (by decide) (by decide) rfl (by decide) (fun _ => ?_) (fun hx52 => ?_)
        · refine ga_new K hK hsh (ci := 16) (16, 0, 0) 111 in_X18 tyX18 tyX18_ok q954 q955 q184 rfl (fun _ => rfl) (by decide) (by show plainK 16; unfold plainK; omega) dX5_order_108 rfl (fun hn43 hsh => ?_)
          refine g_nmA (fun sz44 sl44 kd44 P44 I44 _ _ he44 _ _ => ?_)
          replace hsh : Shp z kd44 := by rw [he44]; exact hsh
          have hk45 := kd_keep hn43 he44 (Nat.le_of_ble_eq_true rfl) hk7
          refine g_dup K rfl 112 dX5_order_111 rfl ?_
          refine g_iloadn K 1 rfl rfl 113 dX5_order_112 rfl ?_
          refine g_iloadn K 3 rfl rfl 114 dX5_order_113 rfl ?_
          have hp46 := (kd_new he44)
          refine gb_callI K hK hsh hlt 117 (ct_x18_init sz44 sl44 kd44 P44 I44 sz4 x1 v5 hp46) (lw_meth q958) q184 q956 q957 rfl wdb_x18_init (by decide) rfl (Nat.le_of_ble_eq_true rfl) dX5_order_114 rfl (fun u48 sz47 sl47 kd47 P47 I47 _ => ?_)
          try dsimp only
          refine g_chk (fun hc => ?_)
          obtain ⟨hsh, hx49⟩ := hc
          have hk50 := hx49.at hk45 (Nat.le_of_ble_eq_true rfl)
          have hk51 := hx49.at hp46 (Nat.le_of_ble_eq_true rfl)
          exact ge_aret K hr (Or.inl ⟨_, rfl⟩) hlk dX5_order_117 rfl
        · refine g_tdef K 118 dX5_order_39 (by have := tne (k := 14) (by decide) hx23; have := tne (k := 15) (by decide) hx42; have := tne (k := 16) (by decide) hx52; omega) (by decide) ?_
          refine ga_new K hK hsh (ci := 17) (17, 0, 0) 121 in_X19 tyX19 tyX19_ok q963 q964 q185 rfl (fun _ => rfl) (by decide) (by show plainK 17; unfold plainK; omega) dX5_order_118 rfl (fun hn53 hsh => ?_)
          refine g_nmA (fun sz54 sl54 kd54 P54 I54 _ _ he54 _ _ => ?_)
          replace hsh : Shp z kd54 := by rw [he54]; exact hsh
          have hk55 := kd_keep hn53 he54 (Nat.le_of_ble_eq_true rfl) hk7
          refine g_dup K rfl 122 dX5_order_121 rfl ?_
          refine g_iloadn K 1 rfl rfl 123 dX5_order_122 rfl ?_
          refine g_iloadn K 3 rfl rfl 124 dX5_order_123 rfl ?_
          have hp56 := (kd_new he54)
          refine gb_callI K hK hsh hlt 127 (ct_x19_init sz54 sl54 kd54 P54 I54 sz4 x1 v5 hp56) (lw_meth q967) q185 q965 q966 rfl wdb_x19_init (by decide) rfl (Nat.le_of_ble_eq_true rfl) dX5_order_124 rfl (fun u58 sz57 sl57 kd57 P57 I57 _ => ?_)
          try dsimp only
          refine g_chk (fun hc => ?_)
          obtain ⟨hsh, hx59⟩ := hc
          have hk60 := hx59.at hk55 (Nat.le_of_ble_eq_true rfl)
          have hk61 := hx59.at hp56 (Nat.le_of_ble_eq_true rfl)
          exact ge_aret K hr (Or.inl ⟨_, rfl⟩) hlk dX5_order_127 rfl
/-- GingerRents$Reader.entries()Ljava/util/ArrayList; -/
noncomputable def x5_entries (z : Nat) (em : Nat) (sz sl : Nat) (kd : Kd) (P : Ptr) (I : Mem) (a : Nat) : Option ((Nat ⊕ Nat) × Sy) := moE sz sl <|
  (al z kd sz).bind fun _ =>
  nmA (sz + 1) (sl + 3) (upA kd sz (18, 0, 0)) (upA P sz (fun _ => none)) (upA I sz (fun _ => 0)) fun sz2 sl2 kd2 P2 I2 =>
  cal (j2_init z em sz2 sl2 kd2 P2 I2 sz) fun u6 sz5 sl5 kd5 P5 I5 =>
  chk (Shp z kd5 ∧ Ext kd2 kd5) (
  (x5_next I5 z a).bind fun r10 =>
  lp (fun again13 (j12 : Nat × Nat × Kd × Ptr × Mem) =>
  chk (Shp z j12.2.2.1 ∧ Ext kd5 j12.2.2.1) (
  if (j12.2.2.2.2 a 4) = 0 then
  some (.inr sz, j12.1, j12.2.1, j12.2.2.1, j12.2.2.2.1, j12.2.2.2.2)
  else
  if (j12.2.2.2.2 a 4) = (nI 10) then
  (j2_size j12.2.2.2.2 sz).bind fun r18 =>
  if r18 = (nI 16) then
  thrF z j12.1 j12.2.1 j12.2.2.1 j12.2.2.2.1 j12.2.2.2.2 a (nI 3)
  else
  (x5_next j12.2.2.2.2 z a).bind fun r20 =>
  thr (x5_number z j12.1 j12.2.1 j12.2.2.1 j12.2.2.2.1 r20 a (nI 0) (nI 999)) fun v23 sz22 sl22 kd22 P22 I22 =>
  chk (Shp z kd22 ∧ Ext j12.2.2.1 kd22) (
  jn (fun (j27 : Nat × Nat × Nat × Kd × Ptr × Mem) =>
  chk (Shp z j27.2.2.2.1 ∧ Ext kd22 j27.2.2.2.1) (
  cal (j2_addA z em j27.2.1 j27.2.2.1 j27.2.2.2.1 j27.2.2.2.2.1 j27.2.2.2.2.2 sz j27.1) fun v34 sz33 sl33 kd33 P33 I33 =>
  chk (Shp z kd33 ∧ Ext j27.2.2.2.1 kd33) (
  thr (x5_must z sz33 sl33 kd33 P33 I33 a (nI 59)) fun v39 sz38 sl38 kd38 P38 I38 =>
  chk (Shp z kd38 ∧ Ext kd33 kd38) (
  again13 (sz38, sl38, kd38, P38, I38))))) (fun k28 =>
  if (I22 a 0) = (nI 1) then
  thr (x5_weather z sz22 sl22 kd22 P22 I22 a v23) fun v49 sz48 sl48 kd48 P48 I48 =>
  chk (Shp z kd48 ∧ Ext kd22 kd48) (
  k28 (v49, sz48, sl48, kd48, P48, I48))
  else
  thr (x5_order z sz22 sl22 kd22 P22 I22 a v23) fun v44 sz43 sl43 kd43 P43 I43 =>
  chk (Shp z kd43 ∧ Ext kd22 kd43) (
  k28 (v44, sz43, sl43, kd43, P43, I43))))
  else
  thrF z j12.1 j12.2.1 j12.2.2.1 j12.2.2.2.1 j12.2.2.2.2 a (nI 1))) fuel (sz5, sl5, kd5, P5, r10))
theorem wdb_x5_entries : yX5_entries.cls = RX5 ∧ yX5_entries.cls ≠ "java/lang/invoke/MethodHandle" ∧ yX5_entries.cls ≠ "java/lang/invoke/VarHandle" ∧ (parseMethodDescriptor yX5_entries.desc).map (fun d => d.parameters.length) = some 0 := by decide
set_option maxRecDepth 100000 in
theorem ct_x5_entries {cs : Cs} {z : Nat} (sz sl : Nat) (kd : Kd) (P : Ptr) (I : Mem) (a : Nat) (ha : kd a = (5, 0, 0)) : CtE cs z yX5_entries cX5_entries 3 (some (.object "java/util/ArrayList")) (13) (276) [.ref a] (sz, sl, kd, P, I) (fun r => some (.ref r)) (x5_entries z (cs 300) sz sl kd P I a) := by
  refine CtE.ofM RX5 (by decide) rfl (Nat.le_of_ble_eq_true rfl) ?_
  intro l D p e s m args below meth c hlt hsh K hr hlk hxt hK
  refine g_sub (ls' := [(0, .ref a)]) [0] rfl ?_
  refine ga_new K hK hsh (ci := 18) (18, 0, 0) 3 in_J2 tyJ2 tyJ2_ok q529 q222 q156 rfl (fun _ => rfl) (by decide) (by show plainK 18; unfold plainK; omega) dX5_entries_0 rfl (fun hn1 hsh => ?_)
  refine g_nmA (fun sz2 sl2 kd2 P2 I2 _ _ he2 _ _ => ?_)
  replace hsh : Shp z kd2 := by rw [he2]; exact hsh
  have hk3 := kd_keep hn1 he2 (Nat.le_of_ble_eq_true rfl) ha
  refine g_dup K rfl 4 dX5_entries_3 rfl ?_
  have hp4 := (kd_new he2)
  refine gb_callI K hK hsh hlt 7 (ct_j2_init sz2 sl2 kd2 P2 I2 sz hp4) (lw_meth q225) q156 q530 q224 rfl wdb_j2_init (by decide) rfl (Nat.le_of_ble_eq_true rfl) dX5_entries_4 rfl (fun u6 sz5 sl5 kd5 P5 I5 _ => ?_)
  try dsimp only
  refine g_chk (fun hc => ?_)
  obtain ⟨hsh, hx7⟩ := hc
  have hk8 := hx7.at hk3 (Nat.le_of_ble_eq_true rfl)
  have hk9 := hx7.at hp4 (Nat.le_of_ble_eq_true rfl)
  refine g_astoren K [(0, .ref a), (1, .ref sz)] [1, 0] rfl (by decide) rfl 8 dX5_entries_7 rfl ?_
  refine g_aloadn K 0 rfl rfl 9 dX5_entries_8 rfl ?_
  refine gx_call K hK hsh 12 (ctx_x5_next P5 I5 a hk8) (lw_V q531 q533 qs2 q163 q534) wd_x5_next hk8 rfl (Nat.le_of_ble_eq_true rfl) rfl (by decide) rfl (Nat.le_of_ble_eq_true rfl) dX5_entries_9 rfl (fun r10 hr11 => ?_)
  refine gx_of ?_
  refine g_lp (head := 12) (L := fun (j12 : Nat × Nat × Kd × Ptr × Mem) => [(0, .ref a), (1, .ref sz)]) (sf := fun j12 => []) (mf := fun j12 => (j12.1, j12.2.1, j12.2.2.1, j12.2.2.2.1, j12.2.2.2.2)) (fun again13 h14 j12 => ?_) fuel (sz5, sl5, kd5, P5, r10)
  try dsimp only
  refine gy_of ?_
  refine g_chk (fun hc => ?_)
  obtain ⟨hsh, hx15⟩ := hc
  have hk16 := hx15.at hk8 (Nat.le_of_ble_eq_true rfl)
  have hk17 := hx15.at hk9 (Nat.le_of_ble_eq_true rfl)
  refine g_aloadn K 0 rfl rfl 13 dX5_entries_12 rfl ?_
  refine gx_get K hK hsh 4 (v := .int (j12.2.2.2.2 a 4)) 16 in_X5 hk16 rfl (Nat.le_of_ble_eq_true rfl) rfl (by decide) (Or.inl q500) rfl dX5_entries_13 rfl ?_
  refine g_if_eq K 19 111 dX5_entries_16 rfl (by decide) (fun _ => ?_) (fun _ => ?_)
  · refine g_aloadn K 1 rfl rfl 112 dX5_entries_111 rfl ?_
    exact ge_aret K hr (Or.inl ⟨_, rfl⟩) hlk dX5_entries_112 rfl
  · refine g_aloadn K 0 rfl rfl 20 dX5_entries_19 rfl ?_
    refine gx_get K hK hsh 4 (v := .int (j12.2.2.2.2 a 4)) 23 in_X5 hk16 rfl (Nat.le_of_ble_eq_true rfl) rfl (by decide) (Or.inl q500) rfl dX5_entries_20 rfl ?_
    refine g_bipush K (nI 10) bp_10 25 dX5_entries_23 rfl ?_
    refine g_icmp_eq K 28 41 dX5_entries_25 rfl (by decide) (fun _ => ?_) (fun _ => ?_)
    · refine g_aloadn K 1 rfl rfl 42 dX5_entries_41 rfl ?_
      refine gx_call K hK hsh 45 (ctx_j2_size j12.2.2.2.1 j12.2.2.2.2 sz hk17) (lw_V q711 q712 q713 q156 q714) wd_j2_size hk17 rfl (Nat.le_of_ble_eq_true rfl) rfl (by decide) rfl (Nat.le_of_ble_eq_true rfl) dX5_entries_42 rfl (fun r18 hr19 => ?_)
      refine g_bipush K (nI 16) bp_16 47 dX5_entries_45 rfl ?_
      refine g_icmp_ne K 50 63 dX5_entries_47 rfl (by decide) (fun _ => ?_) (fun _ => ?_)
      · exact ge_throwF K hK hsh hlt hxt hlk (nI 3) ic_3 hk16 (j := 0) rfl (by decide) dX5_entries_50 dX5_entries_53 dX5_entries_54 dX5_entries_55 dX5_entries_56 dX5_entries_59 dX5_entries_62
      · refine g_aloadn K 0 rfl rfl 64 dX5_entries_63 rfl ?_
        refine gx_call K hK hsh 67 (ctx_x5_next j12.2.2.2.1 j12.2.2.2.2 a hk16) (lw_V q531 q533 qs2 q163 q534) wd_x5_next hk16 rfl (Nat.le_of_ble_eq_true rfl) rfl (by decide) rfl (Nat.le_of_ble_eq_true rfl) dX5_entries_64 rfl (fun r20 hr21 => ?_)
        refine g_aloadn K 0 rfl rfl 68 dX5_entries_67 rfl ?_
        refine g_iconst K (nI 0) ic_0 69 dX5_entries_68 rfl ?_
        refine g_sipush K (nI 999) sp_999 72 dX5_entries_69 rfl ?_
        refine ge_callV K hK hsh hlt hxt hlk 75 (ct_x5_number j12.1 j12.2.1 j12.2.2.1 j12.2.2.2.1 r20 a (nI 0) (nI 999) hk16) (lw_V q729 q731 qs16 q163 q732) wdb_x5_number hk16 rfl (Nat.le_of_ble_eq_true rfl) rfl (by decide) rfl (Nat.le_of_ble_eq_true rfl) dX5_entries_72 rfl (fun v23 sz22 sl22 kd22 P22 I22 _ => ?_)
        try dsimp only
        refine g_chk (fun hc => ?_)
        obtain ⟨hsh, hx24⟩ := hc
        have hk25 := hx24.at hk16 (Nat.le_of_ble_eq_true rfl)
        have hk26 := hx24.at hk17 (Nat.le_of_ble_eq_true rfl)
        refine g_istoren K [(0, .ref a), (1, .ref sz), (2, .int v23)] [1, 2, 0] rfl (by decide) rfl 76 dX5_entries_75 rfl ?_
        refine g_aloadn K 1 rfl rfl 77 dX5_entries_76 rfl ?_
        refine g_aloadn K 0 rfl rfl 78 dX5_entries_77 rfl ?_
        refine gx_get K hK hsh 0 (v := .int (I22 a 0)) 81 in_X5 hk25 rfl (Nat.le_of_ble_eq_true rfl) rfl (by decide) (Or.inl q496) rfl dX5_entries_78 rfl ?_
        refine g_iconst K (nI 1) ic_1 82 dX5_entries_81 rfl ?_
        refine gx_of ?_
        refine g_jn (head := 98) (L := fun (j27 : Nat × Nat × Nat × Kd × Ptr × Mem) => [(0, .ref a), (1, .ref sz)]) (sf := fun j27 => [.ref j27.1, .ref sz]) (mf := fun j27 => (j27.2.1, j27.2.2.1, j27.2.2.2.1, j27.2.2.2.2.1, j27.2.2.2.2.2)) (fun j27 => ?_) (fun k28 h29 => ?_)
        · try dsimp only
          refine gy_of ?_
          refine g_chk (fun hc => ?_)
          obtain ⟨hsh, hx30⟩ := hc
          have hk31 := hx30.at hk25 (Nat.le_of_ble_eq_true rfl)
          have hk32 := hx30.at hk26 (Nat.le_of_ble_eq_true rfl)
          refine gb_callV K hK hsh hlt 101 (ct_j2_addA j27.2.1 j27.2.2.1 j27.2.2.2.1 j27.2.2.2.2.1 j27.2.2.2.2.2 sz j27.1 hk32) (lw_V q819 q820 q821 q156 q822) wdb_j2_add hk32 rfl (Nat.le_of_ble_eq_true rfl) rfl (by decide) rfl (Nat.le_of_ble_eq_true rfl) dX5_entries_98 rfl (fun v34 sz33 sl33 kd33 P33 I33 _ => ?_)
          try dsimp only
          refine g_chk (fun hc => ?_)
          obtain ⟨hsh, hx35⟩ := hc
          have hk36 := hx35.at hk31 (Nat.le_of_ble_eq_true rfl)
          have hk37 := hx35.at hk32 (Nat.le_of_ble_eq_true rfl)
          refine g_pop K rfl 102 dX5_entries_101 rfl ?_
          refine g_aloadn K 0 rfl rfl 103 dX5_entries_102 rfl ?_
          refine g_bipush K (nI 59) bp_59 105 dX5_entries_103 rfl ?_
          refine ge_callV K hK hsh hlt hxt hlk 108 (ct_x5_must sz33 sl33 kd33 P33 I33 a (nI 59) hk36) (lw_V q796 q798 qs21 q163 q799) wdb_x5_must hk36 rfl (Nat.le_of_ble_eq_true rfl) rfl (by decide) rfl (Nat.le_of_ble_eq_true rfl) dX5_entries_105 rfl (fun v39 sz38 sl38 kd38 P38 I38 _ => ?_)
          try dsimp only
          refine g_chk (fun hc => ?_)
          obtain ⟨hsh, hx40⟩ := hc
          have hk41 := hx40.at hk36 (Nat.le_of_ble_eq_true rfl)
          have hk42 := hx40.at hk37 (Nat.le_of_ble_eq_true rfl)
          refine g_goto K 12 dX5_entries_108 (by decide) ?_
          exact gx_of (h14 (sz38, sl38, kd38, P38, I38))
        · refine gy_of ?_
          refine g_icmp_ne K 85 93 dX5_entries_82 rfl (by decide) (fun _ => ?_) (fun _ => ?_)
          · refine g_aloadn K 0 rfl rfl 86 dX5_entries_85 rfl ?_
            refine g_iloadn K 2 rfl rfl 87 dX5_entries_86 rfl ?_
            refine ge_callV K hK hsh hlt hxt hlk 90 (ct_x5_weather sz22 sl22 kd22 P22 I22 a v23 hk25) (lw_V q890 q892 qs25 q163 q893) wdb_x5_weather hk25 rfl (Nat.le_of_ble_eq_true rfl) rfl (by decide) rfl (Nat.le_of_ble_eq_true rfl) dX5_entries_87 rfl (fun v49 sz48 sl48 kd48 P48 I48 _ => ?_)
            try dsimp only
            refine g_chk (fun hc => ?_)
            obtain ⟨hsh, hx50⟩ := hc
            have hk51 := hx50.at hk25 (Nat.le_of_ble_eq_true rfl)
            have hk52 := hx50.at hk26 (Nat.le_of_ble_eq_true rfl)
            refine g_goto K 98 dX5_entries_90 (by decide) ?_
            refine g_sub (ls' := [(0, .ref a), (1, .ref sz)]) [0, 1] rfl ?_
            exact gx_of (h29 (v49, sz48, sl48, kd48, P48, I48))
          · refine g_aloadn K 0 rfl rfl 94 dX5_entries_93 rfl ?_
            refine g_iloadn K 2 rfl rfl 95 dX5_entries_94 rfl ?_
            refine ge_callV K hK hsh hlt hxt hlk 98 (ct_x5_order sz22 sl22 kd22 P22 I22 a v23 hk25) (lw_V q919 q921 qs26 q163 q922) wdb_x5_order hk25 rfl (Nat.le_of_ble_eq_true rfl) rfl (by decide) rfl (Nat.le_of_ble_eq_true rfl) dX5_entries_95 rfl (fun v44 sz43 sl43 kd43 P43 I43 _ => ?_)
            try dsimp only
            refine g_chk (fun hc => ?_)
            obtain ⟨hsh, hx45⟩ := hc
            have hk46 := hx45.at hk25 (Nat.le_of_ble_eq_true rfl)
            have hk47 := hx45.at hk26 (Nat.le_of_ble_eq_true rfl)
            refine g_sub (ls' := [(0, .ref a), (1, .ref sz)]) [0, 1] rfl ?_
            exact gx_of (h29 (v44, sz43, sl43, kd43, P43, I43))
    · exact ge_throwF K hK hsh hlt hxt hlk (nI 1) ic_1 hk16 (j := 0) rfl (by decide) dX5_entries_28 dX5_entries_31 dX5_entries_32 dX5_entries_33 dX5_entries_34 dX5_entries_37 dX5_entries_40
/-- GingerRents$Reader.neighbours()[I -/
noncomputable def x5_neighbours (z : Nat) (sz sl : Nat) (kd : Kd) (P : Ptr) (I : Mem) (a : Nat) : Option ((Nat ⊕ Nat) × Sy) := moE sz sl <|
  (x5_next I z a).bind fun r1 =>
  lp (fun again4 (j3 : Nat × Nat × Kd × Ptr × Mem) =>
  chk (Shp z j3.2.2.1 ∧ Ext kd j3.2.2.1) (
  if (j3.2.2.2.2 a 4) = 0 then
  some (.inr (a + 1), j3.1, j3.2.1, j3.2.2.1, j3.2.2.2.1, j3.2.2.2.2)
  else
  if (j3.2.2.2.2 a 4) = (nI 18) then
  if (j3.2.2.2.2 a 7) = (nI 16) then
  thrF z j3.1 j3.2.1 j3.2.2.1 j3.2.2.2.1 j3.2.2.2.2 a (nI 3)
  else
  (x5_next j3.2.2.2.2 z a).bind fun r8 =>
  thr (x5_house z j3.1 j3.2.1 j3.2.2.1 j3.2.2.2.1 r8 a) fun v11 sz10 sl10 kd10 P10 I10 =>
  chk (Shp z kd10 ∧ Ext j3.2.2.1 kd10) (
  thr (x5_must z sz10 sl10 kd10 P10 I10 a (nI 19)) fun v15 sz14 sl14 kd14 P14 I14 =>
  chk (Shp z kd14 ∧ Ext kd10 kd14) (
  jn (fun (j18 : Nat × Nat × Kd × Ptr × Mem) =>
  chk (Shp z j18.2.2.1 ∧ Ext kd14 j18.2.2.1) (
  thr (x5_house z j18.1 j18.2.1 j18.2.2.1 j18.2.2.2.1 j18.2.2.2.2 a) fun v24 sz23 sl23 kd23 P23 I23 =>
  chk (Shp z kd23 ∧ Ext j18.2.2.1 kd23) (
  thr (x5_must z sz23 sl23 kd23 P23 I23 a (nI 59)) fun v28 sz27 sl27 kd27 P27 I27 =>
  chk (Shp z kd27 ∧ Ext kd23 kd27) (
  (rd I27 (a + 1) 12 v11).bind fun v31 =>
  (wr I27 (a + 1) 12 v11 (v31 ||| ((nI 1) <<< (v24 &&& 31)))).bind fun I32 =>
  (rd I32 (a + 1) 12 v24).bind fun v33 =>
  (wr I32 (a + 1) 12 v24 (v33 ||| ((nI 1) <<< (v11 &&& 31)))).bind fun I34 =>
  nm (up2 I34 a 7 ((I34 a 7) + (nI 1))) fun I35 =>
  again4 (sz27, sl27, kd27, P27, I35))))) (fun k19 =>
  if (I14 a 4) = (nI 2) then
  if (I14 a 5) = v11 then
  thrF z sz14 sl14 kd14 P14 I14 a (nI 2)
  else
  k19 (sz14, sl14, kd14, P14, I14)
  else
  k19 (sz14, sl14, kd14, P14, I14))))
  else
  thrF z j3.1 j3.2.1 j3.2.2.1 j3.2.2.2.1 j3.2.2.2.2 a (nI 1))) fuel (sz, sl, kd, P, r1)
theorem wdb_x5_neighbours : yX5_neighbours.cls = RX5 ∧ yX5_neighbours.cls ≠ "java/lang/invoke/MethodHandle" ∧ yX5_neighbours.cls ≠ "java/lang/invoke/VarHandle" ∧ (parseMethodDescriptor yX5_neighbours.desc).map (fun d => d.parameters.length) = some 0 := by decide
set_option maxRecDepth 100000 in
theorem ct_x5_neighbours {cs : Cs} {z : Nat} (sz sl : Nat) (kd : Kd) (P : Ptr) (I : Mem) (a : Nat) (ha : kd a = (5, 0, 0)) : CtE cs z yX5_neighbours cX5_neighbours 3 (some (.array .int)) (12) (252) [.ref a] (sz, sl, kd, P, I) (fun r => some (.ref r)) (x5_neighbours z sz sl kd P I a) := by
  refine CtE.ofM RX5 (by decide) rfl (Nat.le_of_ble_eq_true rfl) ?_
  intro l D p e s m args below meth c hlt hsh K hr hlk hxt hK
  refine g_sub (ls' := [(0, .ref a)]) [0] rfl ?_
  refine g_aloadn K 0 rfl rfl 1 dX5_neighbours_0 rfl ?_
  refine gx_call K hK hsh 4 (ctx_x5_next P I a ha) (lw_V q531 q533 qs2 q163 q534) wd_x5_next ha rfl (Nat.le_of_ble_eq_true rfl) rfl (by decide) rfl (Nat.le_of_ble_eq_true rfl) dX5_neighbours_1 rfl (fun r1 hr2 => ?_)
  refine gx_of ?_
  refine g_lp (head := 4) (L := fun (j3 : Nat × Nat × Kd × Ptr × Mem) => [(0, .ref a)]) (sf := fun j3 => []) (mf := fun j3 => (j3.1, j3.2.1, j3.2.2.1, j3.2.2.2.1, j3.2.2.2.2)) (fun again4 h5 j3 => ?_) fuel (sz, sl, kd, P, r1)
  try dsimp only
  refine gy_of ?_
  refine g_chk (fun hc => ?_)
  obtain ⟨hsh, hx6⟩ := hc
  have hk7 := hx6.at ha (Nat.le_of_ble_eq_true rfl)
  refine g_aloadn K 0 rfl rfl 5 dX5_neighbours_4 rfl ?_
  refine gx_get K hK hsh 4 (v := .int (j3.2.2.2.2 a 4)) 8 in_X5 hk7 rfl (Nat.le_of_ble_eq_true rfl) rfl (by decide) (Or.inl q500) rfl dX5_neighbours_5 rfl ?_
  refine g_if_eq K 11 147 dX5_neighbours_8 rfl (by decide) (fun _ => ?_) (fun _ => ?_)
  · refine g_aloadn K 0 rfl rfl 148 dX5_neighbours_147 rfl ?_
    refine gx_get K hK hsh 1 (v := .ref (a + 1)) 151 in_X5 hk7 rfl (Nat.le_of_ble_eq_true rfl) rfl (by decide) (Or.inl q497) rfl dX5_neighbours_148 rfl ?_
    exact ge_aret K hr (Or.inr ⟨_, rfl⟩) hlk dX5_neighbours_151 rfl
  · refine g_aloadn K 0 rfl rfl 12 dX5_neighbours_11 rfl ?_
    refine gx_get K hK hsh 4 (v := .int (j3.2.2.2.2 a 4)) 15 in_X5 hk7 rfl (Nat.le_of_ble_eq_true rfl) rfl (by decide) (Or.inl q500) rfl dX5_neighbours_12 rfl ?_
    refine g_bipush K (nI 18) bp_18 17 dX5_neighbours_15 rfl ?_
    refine g_icmp_eq K 20 33 dX5_neighbours_17 rfl (by decide) (fun _ => ?_) (fun _ => ?_)
    · refine g_aloadn K 0 rfl rfl 34 dX5_neighbours_33 rfl ?_
      refine gx_get K hK hsh 7 (v := .int (j3.2.2.2.2 a 7)) 37 in_X5 hk7 rfl (Nat.le_of_ble_eq_true rfl) rfl (by decide) (Or.inl q504) rfl dX5_neighbours_34 rfl ?_
      refine g_bipush K (nI 16) bp_16 39 dX5_neighbours_37 rfl ?_
      refine g_icmp_ne K 42 55 dX5_neighbours_39 rfl (by decide) (fun _ => ?_) (fun _ => ?_)
      · exact ge_throwF K hK hsh hlt hxt hlk (nI 3) ic_3 hk7 (j := 0) rfl (by decide) dX5_neighbours_42 dX5_neighbours_45 dX5_neighbours_46 dX5_neighbours_47 dX5_neighbours_48 dX5_neighbours_51 dX5_neighbours_54
      · refine g_aloadn K 0 rfl rfl 56 dX5_neighbours_55 rfl ?_
        refine gx_call K hK hsh 59 (ctx_x5_next j3.2.2.2.1 j3.2.2.2.2 a hk7) (lw_V q531 q533 qs2 q163 q534) wd_x5_next hk7 rfl (Nat.le_of_ble_eq_true rfl) rfl (by decide) rfl (Nat.le_of_ble_eq_true rfl) dX5_neighbours_56 rfl (fun r8 hr9 => ?_)
        refine g_aloadn K 0 rfl rfl 60 dX5_neighbours_59 rfl ?_
        refine ge_callV K hK hsh hlt hxt hlk 63 (ct_x5_house j3.1 j3.2.1 j3.2.2.1 j3.2.2.2.1 r8 a hk7) (lw_V q923 q925 qs27 q163 q926) wdb_x5_house hk7 rfl (Nat.le_of_ble_eq_true rfl) rfl (by decide) rfl (Nat.le_of_ble_eq_true rfl) dX5_neighbours_60 rfl (fun v11 sz10 sl10 kd10 P10 I10 _ => ?_)
        try dsimp only
        refine g_chk (fun hc => ?_)
        obtain ⟨hsh, hx12⟩ := hc
        have hk13 := hx12.at hk7 (Nat.le_of_ble_eq_true rfl)
        refine g_istoren K [(0, .ref a), (1, .int v11)] [1, 0] rfl (by decide) rfl 64 dX5_neighbours_63 rfl ?_
        refine g_aloadn K 0 rfl rfl 65 dX5_neighbours_64 rfl ?_
        refine g_bipush K (nI 19) bp_19 67 dX5_neighbours_65 rfl ?_
        refine ge_callV K hK hsh hlt hxt hlk 70 (ct_x5_must sz10 sl10 kd10 P10 I10 a (nI 19) hk13) (lw_V q796 q798 qs21 q163 q799) wdb_x5_must hk13 rfl (Nat.le_of_ble_eq_true rfl) rfl (by decide) rfl (Nat.le_of_ble_eq_true rfl) dX5_neighbours_67 rfl (fun v15 sz14 sl14 kd14 P14 I14 _ => ?_)
        try dsimp only
        refine g_chk (fun hc => ?_)
        obtain ⟨hsh, hx16⟩ := hc
        have hk17 := hx16.at hk13 (Nat.le_of_ble_eq_true rfl)
        refine g_aloadn K 0 rfl rfl 71 dX5_neighbours_70 rfl ?_
        refine gx_get K hK hsh 4 (v := .int (I14 a 4)) 74 in_X5 hk17 rfl (Nat.le_of_ble_eq_true rfl) rfl (by decide) (Or.inl q500) rfl dX5_neighbours_71 rfl ?_
        refine g_iconst K (nI 2) ic_2 75 dX5_neighbours_74 rfl ?_
        refine gx_of ?_
        refine g_jn (head := 99) (L := fun (j18 : Nat × Nat × Kd × Ptr × Mem) => [(0, .ref a), (1, .int v11)]) (sf := fun j18 => []) (mf := fun j18 => (j18.1, j18.2.1, j18.2.2.1, j18.2.2.2.1, j18.2.2.2.2)) (fun j18 => ?_) (fun k19 h20 => ?_)
        · try dsimp only
          refine gy_of ?_
          refine g_chk (fun hc => ?_)
          obtain ⟨hsh, hx21⟩ := hc
          have hk22 := hx21.at hk17 (Nat.le_of_ble_eq_true rfl)
          refine g_aloadn K 0 rfl rfl 100 dX5_neighbours_99 rfl ?_
          refine ge_callV K hK hsh hlt hxt hlk 103 (ct_x5_house j18.1 j18.2.1 j18.2.2.1 j18.2.2.2.1 j18.2.2.2.2 a hk22) (lw_V q923 q925 qs27 q163 q926) wdb_x5_house hk22 rfl (Nat.le_of_ble_eq_true rfl) rfl (by decide) rfl (Nat.le_of_ble_eq_true rfl) dX5_neighbours_100 rfl (fun v24 sz23 sl23 kd23 P23 I23 _ => ?_)
          try dsimp only
          refine g_chk (fun hc => ?_)
          obtain ⟨hsh, hx25⟩ := hc
          have hk26 := hx25.at hk22 (Nat.le_of_ble_eq_true rfl)
          refine g_istoren K [(0, .ref a), (1, .int v11), (2, .int v24)] [1, 2, 0] rfl (by decide) rfl 104 dX5_neighbours_103 rfl ?_
          refine g_aloadn K 0 rfl rfl 105 dX5_neighbours_104 rfl ?_
          refine g_bipush K (nI 59) bp_59 107 dX5_neighbours_105 rfl ?_
          refine ge_callV K hK hsh hlt hxt hlk 110 (ct_x5_must sz23 sl23 kd23 P23 I23 a (nI 59) hk26) (lw_V q796 q798 qs21 q163 q799) wdb_x5_must hk26 rfl (Nat.le_of_ble_eq_true rfl) rfl (by decide) rfl (Nat.le_of_ble_eq_true rfl) dX5_neighbours_107 rfl (fun v28 sz27 sl27 kd27 P27 I27 _ => ?_)
          try dsimp only
          refine g_chk (fun hc => ?_)
          obtain ⟨hsh, hx29⟩ := hc
          have hk30 := hx29.at hk26 (Nat.le_of_ble_eq_true rfl)
          refine g_aloadn K 0 rfl rfl 111 dX5_neighbours_110 rfl ?_
          refine gx_get K hK hsh 1 (v := .ref (a + 1)) 114 in_X5 hk30 rfl (Nat.le_of_ble_eq_true rfl) rfl (by decide) (Or.inl q497) rfl dX5_neighbours_111 rfl ?_
          refine g_iloadn K 1 rfl rfl 115 dX5_neighbours_114 rfl ?_
          refine g_dup2 K rfl rfl 116 dX5_neighbours_115 rfl ?_
          refine gx_ald K hK hsh 117 (sh_5_nextTo hsh hk30) dX5_neighbours_116 rfl (fun v31 => ?_)
          refine g_iconst K (nI 1) ic_1 118 dX5_neighbours_117 rfl ?_
          refine g_iloadn K 2 rfl rfl 119 dX5_neighbours_118 rfl ?_
          refine g_ishl K 120 dX5_neighbours_119 rfl ?_
          refine g_ior K 121 dX5_neighbours_120 rfl ?_
          refine gx_ast K hK hsh 122 (sh_5_nextTo hsh hk30) dX5_neighbours_121 rfl (fun I32 => ?_)
          refine g_aloadn K 0 rfl rfl 123 dX5_neighbours_122 rfl ?_
          refine gx_get K hK hsh 1 (v := .ref (a + 1)) 126 in_X5 hk30 rfl (Nat.le_of_ble_eq_true rfl) rfl (by decide) (Or.inl q497) rfl dX5_neighbours_123 rfl ?_
          refine g_iloadn K 2 rfl rfl 127 dX5_neighbours_126 rfl ?_
          refine g_dup2 K rfl rfl 128 dX5_neighbours_127 rfl ?_
          refine gx_ald K hK hsh 129 (sh_5_nextTo hsh hk30) dX5_neighbours_128 rfl (fun v33 => ?_)
          refine g_iconst K (nI 1) ic_1 130 dX5_neighbours_129 rfl ?_
          refine g_iloadn K 1 rfl rfl 131 dX5_neighbours_130 rfl ?_
          refine g_ishl K 132 dX5_neighbours_131 rfl ?_
          refine g_ior K 133 dX5_neighbours_132 rfl ?_
          refine gx_ast K hK hsh 134 (sh_5_nextTo hsh hk30) dX5_neighbours_133 rfl (fun I34 => ?_)
          refine g_aloadn K 0 rfl rfl 135 dX5_neighbours_134 rfl ?_
          refine g_dup K rfl 136 dX5_neighbours_135 rfl ?_
          refine gx_get K hK hsh 7 (v := .int (I34 a 7)) 139 in_X5 hk30 rfl (Nat.le_of_ble_eq_true rfl) rfl (by decide) (Or.inl q504) rfl dX5_neighbours_136 rfl ?_
          refine g_iconst K (nI 1) ic_1 140 dX5_neighbours_139 rfl ?_
          refine g_iadd K 141 dX5_neighbours_140 rfl ?_
          refine gx_put K hK hsh 7 (ty := .int) 144 in_X5 tyX5 tyX5_ok nmX5 hk30 rfl rfl (Nat.le_of_ble_eq_true rfl) rfl (by decide) (Or.inl q504) rfl (by decide +kernel) rfl rfl (Nat.le_of_ble_eq_true rfl) dX5_neighbours_141 rfl (fun I35 _ => ?_)
          refine g_goto K 4 dX5_neighbours_144 (by decide) ?_
          refine g_sub (ls' := [(0, .ref a)]) [0] rfl ?_
          exact gx_of (h5 (sz27, sl27, kd27, P27, I35))
        · refine gy_of ?_
          refine g_icmp_ne K 78 99 dX5_neighbours_75 rfl (by decide) (fun _ => ?_) (fun _ => ?_)
          · refine g_aloadn K 0 rfl rfl 79 dX5_neighbours_78 rfl ?_
            refine gx_get K hK hsh 5 (v := .int (I14 a 5)) 82 in_X5 hk17 rfl (Nat.le_of_ble_eq_true rfl) rfl (by decide) (Or.inl q501) rfl dX5_neighbours_79 rfl ?_
            refine g_iloadn K 1 rfl rfl 83 dX5_neighbours_82 rfl ?_
            refine g_icmp_ne K 86 99 dX5_neighbours_83 rfl (by decide) (fun _ => ?_) (fun _ => ?_)
            · exact ge_throwF K hK hsh hlt hxt hlk (nI 2) ic_2 hk17 (j := 0) rfl (by decide) dX5_neighbours_86 dX5_neighbours_89 dX5_neighbours_90 dX5_neighbours_91 dX5_neighbours_92 dX5_neighbours_95 dX5_neighbours_98
            · exact gx_of (h20 (sz14, sl14, kd14, P14, I14))
          · exact gx_of (h20 (sz14, sl14, kd14, P14, I14))
    · exact ge_throwF K hK hsh hlt hxt hlk (nI 1) ic_1 hk7 (j := 0) rfl (by decide) dX5_neighbours_20 dX5_neighbours_23 dX5_neighbours_24 dX5_neighbours_25 dX5_neighbours_26 dX5_neighbours_29 dX5_neighbours_32
/-- GingerRents.reads(I)I -/
noncomputable def x0_reads (z : Nat) (em : Nat) (sz sl : Nat) (kd : Kd) (P : Ptr) (I : Mem) (x1 : Int32) : Option ((Nat ⊕ Int32) × Sy) := moE sz sl <|
  (al z kd sz).bind fun _ =>
  nmA (sz + 1) (sl + 9) (upA kd sz (45, 0, 0)) (upA P sz (fun _ => none)) (upA I sz (fun _ => 0)) fun sz2 sl2 kd2 P2 I2 =>
  cal (x5_init z sz2 sl2 kd2 P2 I2 sz x1) fun u6 sz5 sl5 kd5 P5 I5 =>
  chk (Shp z kd5 ∧ Ext kd2 kd5 ∧ kd5 sz = (5, 0, 0)) (
  if x1 = (nI 0) then
  thr (x5_law z em sz5 sl5 kd5 P5 I5 sz) fun v12 sz11 sl11 kd11 P11 I11 =>
  chk (Shp z kd11 ∧ Ext kd5 kd11) (
  nm (upP P11 (z + 2) 10 (some v12)) fun P17 =>
  (pk kd11 (P17 (z + 2) 10) (18, 0, 0)).bind fun b18 =>
  (j2_size I11 b18).bind fun r20 =>
  some (.inr r20, sz11, sl11, kd11, P17, I11))
  else
  if x1 = (nI 1) then
  thr (x5_entries z em sz5 sl5 kd5 P5 I5 sz) fun v25 sz24 sl24 kd24 P24 I24 =>
  chk (Shp z kd24 ∧ Ext kd5 kd24) (
  nm (upP P24 (z + 2) 11 (some v25)) fun P30 =>
  (x0_forgets I24 z).bind fun r31 =>
  (pk kd24 (P30 (z + 2) 11) (18, 0, 0)).bind fun b33 =>
  (j2_size r31.2 b33).bind fun r35 =>
  some (.inr r35, sz24, sl24, kd24, P30, r31.2))
  else
  if x1 = (nI 2) then
  thr (x5_entries z em sz5 sl5 kd5 P5 I5 sz) fun v40 sz39 sl39 kd39 P39 I39 =>
  chk (Shp z kd39 ∧ Ext kd5 kd39) (
  nm (upP P39 (z + 2) 12 (some v40)) fun P45 =>
  (x0_forgets I39 z).bind fun r46 =>
  (pk kd39 (P45 (z + 2) 12) (18, 0, 0)).bind fun b48 =>
  (j2_size r46.2 b48).bind fun r50 =>
  some (.inr r50, sz39, sl39, kd39, P45, r46.2))
  else
  thr (x5_neighbours z sz5 sl5 kd5 P5 I5 sz) fun v55 sz54 sl54 kd54 P54 I54 =>
  chk (Shp z kd54 ∧ Ext kd5 kd54) (
  nm (upP P54 (z + 2) 13 (some v55)) fun P60 =>
  nm (up2 I54 (z + 2) 22 (I54 sz 7)) fun I61 =>
  some (.inr (I61 sz 7), sz54, sl54, kd54, P60, I61)))
theorem wdb_x0_reads : yX0_reads.cls = RX0 ∧ yX0_reads.cls ≠ "java/lang/invoke/MethodHandle" ∧ yX0_reads.cls ≠ "java/lang/invoke/VarHandle" ∧ (parseMethodDescriptor yX0_reads.desc).map (fun d => d.parameters.length) = some 1 := by decide
set_option maxRecDepth 100000 in
theorem ct_x0_reads {cs : Cs} {z : Nat} (sz sl : Nat) (kd : Kd) (P : Ptr) (I : Mem) (x1 : Int32) (ha : kd z = (0, 0, 0)) : CtE cs z yX0_reads cX0_reads 3 (some .int) (70) (2085) [.ref z, .int x1] (sz, sl, kd, P, I) (fun r => some (.int r)) (x0_reads z (cs 300) sz sl kd P I x1) := by
  refine CtE.ofM RX0 (by decide) rfl (Nat.le_of_ble_eq_true rfl) ?_
  intro l D p e s m args below meth c hlt hsh K hr hlk hxt hK
  refine g_sub (ls' := [(0, .ref z), (1, .int x1)]) [0, 1] rfl ?_
  refine ga_new K hK hsh (ci := 5) (45, 0, 0) 3 in_X5 tyX5 tyX5_ok q490 q491 q163 rfl (fun _ => rfl) (by decide) (by show plainK 45; unfold plainK; omega) dX0_reads_0 rfl (fun hn1 hsh => ?_)
  refine g_nmA (fun sz2 sl2 kd2 P2 I2 _ _ he2 _ _ => ?_)
  replace hsh : Shp z kd2 := by rw [he2]; exact hsh
  have hk3 := kd_keep hn1 he2 (Nat.le_of_ble_eq_true rfl) ha
  refine g_dup K rfl 4 dX0_reads_3 rfl ?_
  refine g_aloadn K 0 rfl rfl 5 dX0_reads_4 rfl ?_
  refine g_iloadn K 1 rfl rfl 6 dX0_reads_5 rfl ?_
  have hp4 := (kd_new he2)
  refine gb_callI K hK hsh hlt 9 (ct_x5_init sz2 sl2 kd2 P2 I2 sz x1 hp4 hk3) (lw_meth q494) q163 q492 q493 rfl wdb_x5_init (by decide) rfl (Nat.le_of_ble_eq_true rfl) dX0_reads_6 rfl (fun u6 sz5 sl5 kd5 P5 I5 _ => ?_)
  try dsimp only
  refine g_chk (fun hc => ?_)
  obtain ⟨hsh, hx7, hf8⟩ := hc
  have hk9 := hx7.at hk3 (Nat.le_of_ble_eq_true rfl)
  refine g_astoren K [(0, .ref z), (1, .int x1), (2, .ref sz)] [1, 2, 0] rfl (by decide) rfl 10 dX0_reads_9 rfl ?_
  refine g_iloadn K 1 rfl rfl 11 dX0_reads_10 rfl ?_
  refine g_tcase K (nI 0) 36 dX0_reads_11 (by decide) (by decide) rfl (by decide) (fun _ => ?_) (fun hx22 => ?_)
  · refine g_aloadn K 0 rfl rfl 37 dX0_reads_36 rfl ?_
    refine gx_get K hK hsh 4 (v := .ref (z + 2)) 40 in_X0 hk9 rfl (Nat.le_of_ble_eq_true rfl) rfl (by decide) (Or.inl q411) rfl dX0_reads_37 rfl ?_
    refine g_aloadn K 2 rfl rfl 41 dX0_reads_40 rfl ?_
    have hp10 := (sh_0_borough hsh hk9)
    refine ge_callV K hK hsh hlt hxt hlk 44 (ct_x5_law sz5 sl5 kd5 P5 I5 sz hf8) (lw_V q525 q526 q527 q163 q528) wdb_x5_law hf8 rfl (Nat.le_of_ble_eq_true rfl) rfl (by decide) rfl (Nat.le_of_ble_eq_true rfl) dX0_reads_41 rfl (fun v12 sz11 sl11 kd11 P11 I11 _ => ?_)
    try dsimp only
    refine g_chk (fun hc => ?_)
    obtain ⟨hsh, hx13⟩ := hc
    have hk14 := hx13.at hk9 (Nat.le_of_ble_eq_true rfl)
    have hk15 := hx13.at hf8 (Nat.le_of_ble_eq_true rfl)
    have hk16 := hx13.at hp10 (Nat.le_of_ble_eq_true rfl)
    refine gx_putp K hK hsh 10 (ty := .object "java/util/ArrayList") 47 in_X1 tyX1 tyX1_ok nmX1 hk16 rfl rfl (Nat.le_of_ble_eq_true rfl) rfl (by decide) (Or.inr (nf_q318 hK.2)) rfl (by decide +kernel) rfl rfl (Nat.le_of_ble_eq_true rfl) dX0_reads_44 rfl (fun P17 _ => ?_)
    refine g_aloadn K 0 rfl rfl 48 dX0_reads_47 rfl ?_
    refine gx_get K hK hsh 4 (v := .ref (z + 2)) 51 in_X0 hk14 rfl (Nat.le_of_ble_eq_true rfl) rfl (by decide) (Or.inl q411) rfl dX0_reads_48 rfl ?_
    refine gx_getp K hK hsh 10 (18, 0, 0) 54 in_X1 (sh_0_borough hsh hk14) rfl (Nat.le_of_ble_eq_true rfl) rfl (by decide) (Or.inr (nf_q318 hK.2)) rfl dX0_reads_51 rfl (fun b18 hb19 => ?_)
    refine gx_call K hK hsh 57 (ctx_j2_size P17 I11 b18 hb19) (lw_V q885 q712 q713 q156 q714) wd_j2_size hb19 rfl (Nat.le_of_ble_eq_true rfl) rfl (by decide) rfl (Nat.le_of_ble_eq_true rfl) dX0_reads_54 rfl (fun r20 hr21 => ?_)
    exact ge_iret K hr hlk dX0_reads_57 rfl
  · refine g_tcase K (nI 1) 58 dX0_reads_11 (by decide) (by decide) rfl (by decide) (fun _ => ?_) (fun hx37 => ?_)
    · refine g_aloadn K 0 rfl rfl 59 dX0_reads_58 rfl ?_
      refine gx_get K hK hsh 4 (v := .ref (z + 2)) 62 in_X0 hk9 rfl (Nat.le_of_ble_eq_true rfl) rfl (by decide) (Or.inl q411) rfl dX0_reads_59 rfl ?_
      refine g_aloadn K 2 rfl rfl 63 dX0_reads_62 rfl ?_
      have hp23 := (sh_0_borough hsh hk9)
      refine ge_callV K hK hsh hlt hxt hlk 66 (ct_x5_entries sz5 sl5 kd5 P5 I5 sz hf8) (lw_V q886 q887 q888 q163 q889) wdb_x5_entries hf8 rfl (Nat.le_of_ble_eq_true rfl) rfl (by decide) rfl (Nat.le_of_ble_eq_true rfl) dX0_reads_63 rfl (fun v25 sz24 sl24 kd24 P24 I24 _ => ?_)
      try dsimp only
      refine g_chk (fun hc => ?_)
      obtain ⟨hsh, hx26⟩ := hc
      have hk27 := hx26.at hk9 (Nat.le_of_ble_eq_true rfl)
      have hk28 := hx26.at hf8 (Nat.le_of_ble_eq_true rfl)
      have hk29 := hx26.at hp23 (Nat.le_of_ble_eq_true rfl)
      refine gx_putp K hK hsh 11 (ty := .object "java/util/ArrayList") 69 in_X1 tyX1 tyX1_ok nmX1 hk29 rfl rfl (Nat.le_of_ble_eq_true rfl) rfl (by decide) (Or.inr (nf_q320 hK.2)) rfl (by decide +kernel) rfl rfl (Nat.le_of_ble_eq_true rfl) dX0_reads_66 rfl (fun P30 _ => ?_)
      refine g_aloadn K 0 rfl rfl 70 dX0_reads_69 rfl ?_
      refine gx_call K hK hsh 73 (ctx_x0_forgets P30 I24 hk27) (lw_V q972 q974 qs28 q151 q975) wd_x0_forgets hk27 rfl (Nat.le_of_ble_eq_true rfl) rfl (by decide) rfl (Nat.le_of_ble_eq_true rfl) dX0_reads_70 rfl (fun r31 hr32 => ?_)
      refine g_pop K rfl 74 dX0_reads_73 rfl ?_
      refine g_aloadn K 0 rfl rfl 75 dX0_reads_74 rfl ?_
      refine gx_get K hK hsh 4 (v := .ref (z + 2)) 78 in_X0 hk27 rfl (Nat.le_of_ble_eq_true rfl) rfl (by decide) (Or.inl q411) rfl dX0_reads_75 rfl ?_
      refine gx_getp K hK hsh 11 (18, 0, 0) 81 in_X1 (sh_0_borough hsh hk27) rfl (Nat.le_of_ble_eq_true rfl) rfl (by decide) (Or.inr (nf_q320 hK.2)) rfl dX0_reads_78 rfl (fun b33 hb34 => ?_)
      refine gx_call K hK hsh 84 (ctx_j2_size P30 r31.2 b33 hb34) (lw_V q885 q712 q713 q156 q714) wd_j2_size hb34 rfl (Nat.le_of_ble_eq_true rfl) rfl (by decide) rfl (Nat.le_of_ble_eq_true rfl) dX0_reads_81 rfl (fun r35 hr36 => ?_)
      exact ge_iret K hr hlk dX0_reads_84 rfl
    · refine g_tcase K (nI 2) 85 dX0_reads_11 (by decide) (by decide) rfl (by decide) (fun _ => ?_) (fun hx52 => ?_)
      · refine g_aloadn K 0 rfl rfl 86 dX0_reads_85 rfl ?_
        refine gx_get K hK hsh 4 (v := .ref (z + 2)) 89 in_X0 hk9 rfl (Nat.le_of_ble_eq_true rfl) rfl (by decide) (Or.inl q411) rfl dX0_reads_86 rfl ?_
        refine g_aloadn K 2 rfl rfl 90 dX0_reads_89 rfl ?_
        have hp38 := (sh_0_borough hsh hk9)
        refine ge_callV K hK hsh hlt hxt hlk 93 (ct_x5_entries sz5 sl5 kd5 P5 I5 sz hf8) (lw_V q886 q887 q888 q163 q889) wdb_x5_entries hf8 rfl (Nat.le_of_ble_eq_true rfl) rfl (by decide) rfl (Nat.le_of_ble_eq_true rfl) dX0_reads_90 rfl (fun v40 sz39 sl39 kd39 P39 I39 _ => ?_)
        try dsimp only
        refine g_chk (fun hc => ?_)
        obtain ⟨hsh, hx41⟩ := hc
        have hk42 := hx41.at hk9 (Nat.le_of_ble_eq_true rfl)
        have hk43 := hx41.at hf8 (Nat.le_of_ble_eq_true rfl)
        have hk44 := hx41.at hp38 (Nat.le_of_ble_eq_true rfl)
        refine gx_putp K hK hsh 12 (ty := .object "java/util/ArrayList") 96 in_X1 tyX1 tyX1_ok nmX1 hk44 rfl rfl (Nat.le_of_ble_eq_true rfl) rfl (by decide) (Or.inr (nf_q322 hK.2)) rfl (by decide +kernel) rfl rfl (Nat.le_of_ble_eq_true rfl) dX0_reads_93 rfl (fun P45 _ => ?_)
        refine g_aloadn K 0 rfl rfl 97 dX0_reads_96 rfl ?_
        refine gx_call K hK hsh 100 (ctx_x0_forgets P45 I39 hk42) (lw_V q972 q974 qs28 q151 q975) wd_x0_forgets hk42 rfl (Nat.le_of_ble_eq_true rfl) rfl (by decide) rfl (Nat.le_of_ble_eq_true rfl) dX0_reads_97 rfl (fun r46 hr47 => ?_)
        refine g_pop K rfl 101 dX0_reads_100 rfl ?_
        refine g_aloadn K 0 rfl rfl 102 dX0_reads_101 rfl ?_
        refine gx_get K hK hsh 4 (v := .ref (z + 2)) 105 in_X0 hk42 rfl (Nat.le_of_ble_eq_true rfl) rfl (by decide) (Or.inl q411) rfl dX0_reads_102 rfl ?_
        refine gx_getp K hK hsh 12 (18, 0, 0) 108 in_X1 (sh_0_borough hsh hk42) rfl (Nat.le_of_ble_eq_true rfl) rfl (by decide) (Or.inr (nf_q322 hK.2)) rfl dX0_reads_105 rfl (fun b48 hb49 => ?_)
        refine gx_call K hK hsh 111 (ctx_j2_size P45 r46.2 b48 hb49) (lw_V q885 q712 q713 q156 q714) wd_j2_size hb49 rfl (Nat.le_of_ble_eq_true rfl) rfl (by decide) rfl (Nat.le_of_ble_eq_true rfl) dX0_reads_108 rfl (fun r50 hr51 => ?_)
        exact ge_iret K hr hlk dX0_reads_111 rfl
      · refine g_tdef K 112 dX0_reads_11 (by have := tne (k := 0) (by decide) hx22; have := tne (k := 1) (by decide) hx37; have := tne (k := 2) (by decide) hx52; omega) (by decide) ?_
        refine g_aloadn K 0 rfl rfl 113 dX0_reads_112 rfl ?_
        refine gx_get K hK hsh 4 (v := .ref (z + 2)) 116 in_X0 hk9 rfl (Nat.le_of_ble_eq_true rfl) rfl (by decide) (Or.inl q411) rfl dX0_reads_113 rfl ?_
        refine g_aloadn K 2 rfl rfl 117 dX0_reads_116 rfl ?_
        have hp53 := (sh_0_borough hsh hk9)
        refine ge_callV K hK hsh hlt hxt hlk 120 (ct_x5_neighbours sz5 sl5 kd5 P5 I5 sz hf8) (lw_V q976 q977 q978 q163 q979) wdb_x5_neighbours hf8 rfl (Nat.le_of_ble_eq_true rfl) rfl (by decide) rfl (Nat.le_of_ble_eq_true rfl) dX0_reads_117 rfl (fun v55 sz54 sl54 kd54 P54 I54 _ => ?_)
        try dsimp only
        refine g_chk (fun hc => ?_)
        obtain ⟨hsh, hx56⟩ := hc
        have hk57 := hx56.at hk9 (Nat.le_of_ble_eq_true rfl)
        have hk58 := hx56.at hf8 (Nat.le_of_ble_eq_true rfl)
        have hk59 := hx56.at hp53 (Nat.le_of_ble_eq_true rfl)
        refine gx_putp K hK hsh 13 (ty := .array .int) 123 in_X1 tyX1 tyX1_ok nmX1 hk59 rfl rfl (Nat.le_of_ble_eq_true rfl) rfl (by decide) (Or.inr (nf_q324 hK.2)) rfl (by decide +kernel) rfl rfl (Nat.le_of_ble_eq_true rfl) dX0_reads_120 rfl (fun P60 _ => ?_)
        refine g_aloadn K 0 rfl rfl 124 dX0_reads_123 rfl ?_
        refine gx_get K hK hsh 4 (v := .ref (z + 2)) 127 in_X0 hk57 rfl (Nat.le_of_ble_eq_true rfl) rfl (by decide) (Or.inl q411) rfl dX0_reads_124 rfl ?_
        refine g_aloadn K 2 rfl rfl 128 dX0_reads_127 rfl ?_
        refine gx_get K hK hsh 7 (v := .int (I54 sz 7)) 131 in_X5 hk58 rfl (Nat.le_of_ble_eq_true rfl) rfl (by decide) (Or.inr (nf_q503 hK.2)) rfl dX0_reads_128 rfl ?_
        refine gx_put K hK hsh 22 (ty := .int) 134 in_X1 tyX1 tyX1_ok nmX1 (sh_0_borough hsh hk57) rfl rfl (Nat.le_of_ble_eq_true rfl) rfl (by decide) (Or.inr (nf_q345 hK.2)) rfl (by decide +kernel) rfl rfl (Nat.le_of_ble_eq_true rfl) dX0_reads_131 rfl (fun I61 _ => ?_)
        refine g_aloadn K 2 rfl rfl 135 dX0_reads_134 rfl ?_
        refine gx_get K hK hsh 7 (v := .int (I61 sz 7)) 138 in_X5 hk58 rfl (Nat.le_of_ble_eq_true rfl) rfl (by decide) (Or.inr (nf_q503 hK.2)) rfl dX0_reads_135 rfl ?_
        exact ge_iret K hr hlk dX0_reads_138 rfl
/-- GingerRents.text(I)I -/
noncomputable def x0_text (z : Nat) (em : Nat) (sz sl : Nat) (kd : Kd) (P : Ptr) (I : Mem) (x1 : Int32) : Option (Int32 × Sy) := moB sz sl <|
  nm (up2 I z 2 (nI 0)) fun I1 =>
  nm (up2 I1 z 3 (-1 : Int32)) fun I2 =>
  (x0_isIn x1 (nI 0) (nI 3)).bind fun r3 =>
  jn (fun (j4 : Int32 × Nat × Nat × Kd × Ptr × Mem) =>
  chk (Shp z j4.2.2.2.1 ∧ Ext kd j4.2.2.2.1) (
  nm (up2 j4.2.2.2.2.2 z 1 (nI 0)) fun I9 =>
  some (j4.1, j4.2.1, j4.2.2.1, j4.2.2.2.1, j4.2.2.2.2.1, I9))) (fun k5 =>
  if (bI r3) = 0 then
  k5 ((-1 : Int32), sz, sl, kd, P, I2)
  else
  tryc (x0_reads z em sz sl kd P I2 x1) (fun v12 sz10 sl10 kd10 P10 I10 =>
  chk (Shp z kd10 ∧ Ext kd kd10) (
  k5 (v12, sz10, sl10, kd10, P10, I10))) (fun a13 sz11 sl11 kd11 P11 I11 =>
  chk (Shp z kd11 ∧ Ext kd kd11 ∧ kd11 a13 = (6, 0, 0)) (
  nm (up2 I11 z 2 (I11 a13 6)) fun I19 =>
  nm (up2 I19 z 3 (I19 a13 7)) fun I20 =>
  nm (up2 I20 z 1 (nI 0)) fun I21 =>
  some ((-1 : Int32), sz11, sl11, kd11, P11, I21))))
theorem wdb_x0_text : yX0_text.cls = RX0 ∧ yX0_text.cls ≠ "java/lang/invoke/MethodHandle" ∧ yX0_text.cls ≠ "java/lang/invoke/VarHandle" ∧ (parseMethodDescriptor yX0_text.desc).map (fun d => d.parameters.length) = some 1 := by decide
set_option maxRecDepth 100000 in
theorem ct_x0_text {cs : Cs} {z : Nat} (sz sl : Nat) (kd : Kd) (P : Ptr) (I : Mem) (x1 : Int32) (ha : kd z = (0, 0, 0)) : CtH cs z yX0_text cX0_text 5 (some .int) (71) (2107) [.ref z, .int x1] (sz, sl, kd, P, I) (fun r => some (.int r)) (x0_text z (cs 300) sz sl kd P I x1) := by
  refine CtH.ofM RX0 (by decide) rfl (Nat.le_of_ble_eq_true rfl) ?_
  intro l D p e s m args below meth c hlt hsh K hr hlk hxt hK
  refine g_sub (ls' := [(0, .ref z), (1, .int x1)]) [0, 1] rfl ?_
  refine g_aloadn K 0 rfl rfl 1 dX0_text_0 rfl ?_
  refine g_iconst K (nI 0) ic_0 2 dX0_text_1 rfl ?_
  refine gx_put K hK hsh 2 (ty := .int) 5 in_X0 tyX0 tyX0_ok nmX0 ha rfl rfl (Nat.le_of_ble_eq_true rfl) rfl (by decide) (Or.inl q409) rfl (by decide +kernel) rfl rfl (Nat.le_of_ble_eq_true rfl) dX0_text_2 rfl (fun I1 _ => ?_)
  refine g_aloadn K 0 rfl rfl 6 dX0_text_5 rfl ?_
  refine g_iconst K (-1 : Int32) ic_m1 7 dX0_text_6 rfl ?_
  refine gx_put K hK hsh 3 (ty := .int) 10 in_X0 tyX0 tyX0_ok nmX0 ha rfl rfl (Nat.le_of_ble_eq_true rfl) rfl (by decide) (Or.inl q410) rfl (by decide +kernel) rfl rfl (Nat.le_of_ble_eq_true rfl) dX0_text_7 rfl (fun I2 _ => ?_)
  refine g_iloadn K 1 rfl rfl 11 dX0_text_10 rfl ?_
  refine g_iconst K (nI 0) ic_0 12 dX0_text_11 rfl ?_
  refine g_iconst K (nI 3) ic_3 13 dX0_text_12 rfl ?_
  refine g_callS K 16 (cts_x0_isIn x1 (nI 0) (nI 3)) (lw_S q478 q479 q151 q480) wds_x0_isIn (by decide) rfl (Nat.le_of_ble_eq_true rfl) dX0_text_13 rfl (fun r3 _ => ?_)
  refine gx_of ?_
  refine g_jn (head := 28) (L := fun (j4 : Int32 × Nat × Nat × Kd × Ptr × Mem) => [(0, .ref z)]) (sf := fun j4 => [.int j4.1]) (mf := fun j4 => (j4.2.1, j4.2.2.1, j4.2.2.2.1, j4.2.2.2.2.1, j4.2.2.2.2.2)) (fun j4 => ?_) (fun k5 h6 => ?_)
  · try dsimp only
    refine gy_of ?_
    refine g_chk (fun hc => ?_)
    obtain ⟨hsh, hx7⟩ := hc
    have hk8 := hx7.at ha (Nat.le_of_ble_eq_true rfl)
    refine g_istoren K [(0, .ref z), (2, .int j4.1)] [1, 0] rfl (by decide) rfl 29 dX0_text_28 rfl ?_
    refine g_aloadn K 0 rfl rfl 30 dX0_text_29 rfl ?_
    refine g_iconst K (nI 0) ic_0 31 dX0_text_30 rfl ?_
    refine gx_put K hK hsh 1 (ty := .int) 34 in_X0 tyX0 tyX0_ok nmX0 hk8 rfl rfl (Nat.le_of_ble_eq_true rfl) rfl (by decide) (Or.inl q408) rfl (by decide +kernel) rfl rfl (Nat.le_of_ble_eq_true rfl) dX0_text_31 rfl (fun I9 _ => ?_)
    refine g_iloadn K 1 rfl rfl 35 dX0_text_34 rfl ?_
    exact gt_iret K hr hlk dX0_text_35 rfl
  · refine gy_of ?_
    refine g_if_eq K 19 27 dX0_text_16 rfl (by decide) (fun _ => ?_) (fun _ => ?_)
    · refine g_iconst K (-1 : Int32) ic_m1 28 dX0_text_27 rfl ?_
      refine g_sub (ls' := [(0, .ref z)]) [0] rfl ?_
      exact gx_of (h6 ((-1 : Int32), sz, sl, kd, P, I2))
    · refine g_aloadn K 0 rfl rfl 20 dX0_text_19 rfl ?_
      refine g_iloadn K 1 rfl rfl 21 dX0_text_20 rfl ?_
      refine gt_callV K hK hsh hlt hxt rfl rfl 24 (ct_x0_reads sz sl kd P I2 x1 ha) (lw_V q486 q488 qs1 q151 q489) wdb_x0_reads ha rfl (Nat.le_of_ble_eq_true rfl) rfl (by decide) rfl (Nat.le_of_ble_eq_true rfl) dX0_text_21 rfl (fun v12 sz10 sl10 kd10 P10 I10 _ => ?_) (fun a13 sz11 sl11 kd11 P11 I11 _ => ?_)
      · try dsimp only
        refine g_chk (fun hc => ?_)
        obtain ⟨hsh, hx14⟩ := hc
        have hk15 := hx14.at ha (Nat.le_of_ble_eq_true rfl)
        refine g_goto K 28 dX0_text_24 (by decide) ?_
        refine g_sub (ls' := [(0, .ref z)]) [0] rfl ?_
        exact gx_of (h6 (v12, sz10, sl10, kd10, P10, I10))
      · refine g_chk (fun hc => ?_)
        obtain ⟨hsh, hx16, hf17⟩ := hc
        have hk18 := hx16.at ha (Nat.le_of_ble_eq_true rfl)
        refine g_astoren K [(0, .ref z), (2, .ref a13)] [1, 0] rfl (by decide) rfl 37 dX0_text_36 rfl ?_
        refine g_aloadn K 0 rfl rfl 38 dX0_text_37 rfl ?_
        refine g_aloadn K 1 rfl rfl 39 dX0_text_38 rfl ?_
        refine gx_get K hK hsh 6 (v := .int (I11 a13 6)) 42 in_X6 hf17 rfl (Nat.le_of_ble_eq_true rfl) rfl (by decide) (Or.inr (nf_q692 hK.2)) rfl dX0_text_39 rfl ?_
        refine gx_put K hK hsh 2 (ty := .int) 45 in_X0 tyX0 tyX0_ok nmX0 hk18 rfl rfl (Nat.le_of_ble_eq_true rfl) rfl (by decide) (Or.inl q409) rfl (by decide +kernel) rfl rfl (Nat.le_of_ble_eq_true rfl) dX0_text_42 rfl (fun I19 _ => ?_)
        refine g_aloadn K 0 rfl rfl 46 dX0_text_45 rfl ?_
        refine g_aloadn K 1 rfl rfl 47 dX0_text_46 rfl ?_
        refine gx_get K hK hsh 7 (v := .int (I19 a13 7)) 50 in_X6 hf17 rfl (Nat.le_of_ble_eq_true rfl) rfl (by decide) (Or.inr (nf_q694 hK.2)) rfl dX0_text_47 rfl ?_
        refine gx_put K hK hsh 3 (ty := .int) 53 in_X0 tyX0 tyX0_ok nmX0 hk18 rfl rfl (Nat.le_of_ble_eq_true rfl) rfl (by decide) (Or.inl q410) rfl (by decide +kernel) rfl rfl (Nat.le_of_ble_eq_true rfl) dX0_text_50 rfl (fun I20 _ => ?_)
        refine g_iconst K (-1 : Int32) ic_m1 54 dX0_text_53 rfl ?_
        refine g_istoren K [(0, .ref z), (3, .int (-1 : Int32))] [1, 0] rfl (by decide) rfl 55 dX0_text_54 rfl ?_
        refine g_aloadn K 0 rfl rfl 56 dX0_text_55 rfl ?_
        refine g_iconst K (nI 0) ic_0 57 dX0_text_56 rfl ?_
        refine gx_put K hK hsh 1 (ty := .int) 60 in_X0 tyX0 tyX0_ok nmX0 hk18 rfl rfl (Nat.le_of_ble_eq_true rfl) rfl (by decide) (Or.inl q408) rfl (by decide +kernel) rfl rfl (Nat.le_of_ble_eq_true rfl) dX0_text_57 rfl (fun I21 _ => ?_)
        refine g_iloadn K 1 rfl rfl 61 dX0_text_60 rfl ?_
        exact gt_iret K hr hlk dX0_text_61 rfl
