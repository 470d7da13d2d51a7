/-- GingerRents$Borough.<init>()V -/
noncomputable def x1_init (z : Nat) (em : Nat) (sz sl : Nat) (kd : Kd) (P : Ptr) (I : Mem) (a : Nat) : Option (Unit × Sy) := moB sz sl <|
  (alA z kd sz (nI 12)).bind fun len2 =>
  nmA (sz + 1) (sl + len2) (upA kd sz (63, len2, 0)) (upA P sz (fun _ => none)) (upA I sz (fun _ => 0)) fun sz4 sl4 kd4 P4 I4 =>
  nm (upP P4 a 0 (some sz)) fun P6 =>
  (alM z kd4 sz4 (nI 150) (nI 4)).bind fun nm12 =>
  nmA (sz4 + 1 + nm12.1) (sl4 + nm12.1 + nm12.1 * nm12.2) (kdM kd4 sz4 nm12.1 nm12.2) (upR P6 sz4 (nm12.1 + 1) (fun _ => none)) (upR I4 sz4 (nm12.1 + 1) (fun _ => 0)) fun sz13 sl13 kd13 P13 I13 =>
  nm (upP P13 a 1 (some sz4)) fun P15 =>
  (al z kd13 sz13).bind fun _ =>
  nmA (sz13 + 1) (sl13 + 2) (upA kd13 sz13 (42, 0, 0)) (upA P15 sz13 (fun _ => none)) (upA I13 sz13 (fun _ => 0)) fun sz17 sl17 kd17 P17 I17 =>
  cal (x2_init z sz17 sl17 kd17 P17 I17 sz13 (nI 9)) fun u21 sz20 sl20 kd20 P20 I20 =>
  chk (Shp z kd20 ∧ Ext kd17 kd20 ∧ kd20 a = (41, 0, 0) ∧ kd20 sz13 = (2, 9, 0)) (
  nm (upP P20 a 2 (some sz13)) fun P26 =>
  (al z kd20 sz20).bind fun _ =>
  nmA (sz20 + 1) (sl20 + 2) (upA kd20 sz20 (42, 0, 0)) (upA P26 sz20 (fun _ => none)) (upA I20 sz20 (fun _ => 0)) fun sz28 sl28 kd28 P28 I28 =>
  cal (x2_init z sz28 sl28 kd28 P28 I28 sz20 (nI 8)) fun u32 sz31 sl31 kd31 P31 I31 =>
  chk (Shp z kd31 ∧ Ext kd28 kd31 ∧ kd31 a = (41, 0, 0) ∧ kd31 sz20 = (2, 8, 0)) (
  nm (upP P31 a 3 (some sz20)) fun P37 =>
  (al z kd31 sz31).bind fun _ =>
  nmA (sz31 + 1) (sl31 + 2) (upA kd31 sz31 (42, 0, 0)) (upA P37 sz31 (fun _ => none)) (upA I31 sz31 (fun _ => 0)) fun sz39 sl39 kd39 P39 I39 =>
  cal (x2_init z sz39 sl39 kd39 P39 I39 sz31 (nI 5)) fun u43 sz42 sl42 kd42 P42 I42 =>
  chk (Shp z kd42 ∧ Ext kd39 kd42 ∧ kd42 a = (41, 0, 0) ∧ kd42 sz31 = (2, 5, 0)) (
  nm (upP P42 a 4 (some sz31)) fun P48 =>
  (al z kd42 sz42).bind fun _ =>
  nmA (sz42 + 1) (sl42 + 2) (upA kd42 sz42 (42, 0, 0)) (upA P48 sz42 (fun _ => none)) (upA I42 sz42 (fun _ => 0)) fun sz50 sl50 kd50 P50 I50 =>
  cal (x2_init z sz50 sl50 kd50 P50 I50 sz42 (nI 8)) fun u54 sz53 sl53 kd53 P53 I53 =>
  chk (Shp z kd53 ∧ Ext kd50 kd53 ∧ kd53 a = (41, 0, 0) ∧ kd53 sz42 = (2, 8, 0)) (
  nm (upP P53 a 5 (some sz42)) fun P59 =>
  (al z kd53 sz53).bind fun _ =>
  nmA (sz53 + 1) (sl53 + 2) (upA kd53 sz53 (42, 0, 0)) (upA P59 sz53 (fun _ => none)) (upA I53 sz53 (fun _ => 0)) fun sz61 sl61 kd61 P61 I61 =>
  cal (x2_init z sz61 sl61 kd61 P61 I61 sz53 (nI 16)) fun u65 sz64 sl64 kd64 P64 I64 =>
  chk (Shp z kd64 ∧ Ext kd61 kd64 ∧ kd64 a = (41, 0, 0) ∧ kd64 sz53 = (2, 16, 0)) (
  nm (upP P64 a 6 (some sz53)) fun P70 =>
  (al z kd64 sz64).bind fun _ =>
  nmA (sz64 + 1) (sl64 + 2) (upA kd64 sz64 (42, 0, 0)) (upA P70 sz64 (fun _ => none)) (upA I64 sz64 (fun _ => 0)) fun sz72 sl72 kd72 P72 I72 =>
  cal (x2_init z sz72 sl72 kd72 P72 I72 sz64 (nI 6)) fun u76 sz75 sl75 kd75 P75 I75 =>
  chk (Shp z kd75 ∧ Ext kd72 kd75 ∧ kd75 a = (41, 0, 0) ∧ kd75 sz64 = (2, 6, 0)) (
  nm (upP P75 a 7 (some sz64)) fun P81 =>
  (al z kd75 sz75).bind fun _ =>
  nmA (sz75 + 1) (sl75 + 2) (upA kd75 sz75 (42, 0, 0)) (upA P81 sz75 (fun _ => none)) (upA I75 sz75 (fun _ => 0)) fun sz83 sl83 kd83 P83 I83 =>
  cal (x2_init z sz83 sl83 kd83 P83 I83 sz75 (nI 12)) fun u87 sz86 sl86 kd86 P86 I86 =>
  chk (Shp z kd86 ∧ Ext kd83 kd86 ∧ kd86 a = (41, 0, 0) ∧ kd86 sz75 = (2, 12, 0)) (
  nm (upP P86 a 8 (some sz75)) fun P92 =>
  (al z kd86 sz86).bind fun _ =>
  nmA (sz86 + 1) (sl86 + 2) (upA kd86 sz86 (42, 0, 0)) (upA P92 sz86 (fun _ => none)) (upA I86 sz86 (fun _ => 0)) fun sz94 sl94 kd94 P94 I94 =>
  cal (x2_init z sz94 sl94 kd94 P94 I94 sz86 (nI 8)) fun u98 sz97 sl97 kd97 P97 I97 =>
  chk (Shp z kd97 ∧ Ext kd94 kd97 ∧ kd97 a = (41, 0, 0) ∧ kd97 sz86 = (2, 8, 0)) (
  nm (upP P97 a 9 (some sz86)) fun P103 =>
  (al z kd97 sz97).bind fun _ =>
  nmA (sz97 + 1) (sl97 + 3) (upA kd97 sz97 (18, 0, 0)) (upA P103 sz97 (fun _ => none)) (upA I97 sz97 (fun _ => 0)) fun sz105 sl105 kd105 P105 I105 =>
  cal (j2_init z em sz105 sl105 kd105 P105 I105 sz97) fun u109 sz108 sl108 kd108 P108 I108 =>
  chk (Shp z kd108 ∧ Ext kd105 kd108 ∧ kd108 a = (41, 0, 0)) (
  nm (upP P108 a 10 (some sz97)) fun P114 =>
  (al z kd108 sz108).bind fun _ =>
  nmA (sz108 + 1) (sl108 + 3) (upA kd108 sz108 (18, 0, 0)) (upA P114 sz108 (fun _ => none)) (upA I108 sz108 (fun _ => 0)) fun sz116 sl116 kd116 P116 I116 =>
  cal (j2_init z em sz116 sl116 kd116 P116 I116 sz108) fun u120 sz119 sl119 kd119 P119 I119 =>
  chk (Shp z kd119 ∧ Ext kd116 kd119 ∧ kd119 a = (41, 0, 0)) (
  nm (upP P119 a 11 (some sz108)) fun P125 =>
  (al z kd119 sz119).bind fun _ =>
  nmA (sz119 + 1) (sl119 + 3) (upA kd119 sz119 (18, 0, 0)) (upA P125 sz119 (fun _ => none)) (upA I119 sz119 (fun _ => 0)) fun sz127 sl127 kd127 P127 I127 =>
  cal (j2_init z em sz127 sl127 kd127 P127 I127 sz119) fun u131 sz130 sl130 kd130 P130 I130 =>
  chk (Shp z kd130 ∧ Ext kd127 kd130 ∧ kd130 a = (41, 0, 0)) (
  nm (upP P130 a 12 (some sz119)) fun P136 =>
  (alA z kd130 sz130 (nI 12)).bind fun len138 =>
  nmA (sz130 + 1) (sl130 + len138) (upA kd130 sz130 (20, len138, 0)) (upA P136 sz130 (fun _ => none)) (upA I130 sz130 (fun _ => 0)) fun sz140 sl140 kd140 P140 I140 =>
  nm (upP P140 a 13 (some sz130)) fun P142 =>
  lp (fun again144 (j143 : Int32 × Nat × Nat × Kd × Ptr × Mem) =>
  chk (Shp z j143.2.2.2.1 ∧ Ext kd140 j143.2.2.2.1 ∧ j143.2.2.2.1 a = (41, 0, 0)) (
  if (nI 12) ≤ j143.1 then
  chk (∀ cs, cvOk cs z j143.2.2.2.1 (upA (upA j143.2.2.2.1 a (1, 0, 0)) (a + 1) (23, 12, 0)) j143.2.2.2.2.1 j143.2.2.2.2.2) (some ((), j143.2.1, j143.2.2.1, (upA (upA j143.2.2.2.1 a (1, 0, 0)) (a + 1) (23, 12, 0)), j143.2.2.2.2.1, j143.2.2.2.2.2))
  else
  (pk j143.2.2.2.1 (j143.2.2.2.2.1 a 0) (63, 12, 0)).bind fun b150 =>
  (al z j143.2.2.2.1 j143.2.1).bind fun _ =>
  nmA (j143.2.1 + 1) (j143.2.2.1 + 8) (upA j143.2.2.2.1 j143.2.1 (43, 0, 0)) (upA j143.2.2.2.2.1 j143.2.1 (fun _ => none)) (upA j143.2.2.2.2.2 j143.2.1 (fun _ => 0)) fun sz153 sl153 kd153 P153 I153 =>
  cal (x3_init z sz153 sl153 kd153 P153 I153 j143.2.1) fun u158 sz157 sl157 kd157 P157 I157 =>
  chk (Shp z kd157 ∧ Ext kd153 kd157 ∧ kd157 a = (41, 0, 0) ∧ kd157 b150 = (63, 12, 0) ∧ kd157 j143.2.1 = (3, 0, 0)) (
  (wrP P157 b150 12 j143.1 j143.2.1).bind fun P165 =>
  again144 ((j143.1 + (nI 1)), sz157, sl157, kd157, P165, I157)))) fuel ((nI 0), sz140, sl140, kd140, P142, I140))))))))))))
theorem wdb_x1_init : yX1_init.cls ≠ "java/lang/invoke/MethodHandle" ∧ yX1_init.cls ≠ "java/lang/invoke/VarHandle" ∧ (parseMethodDescriptor yX1_init.desc).map (fun d => d.parameters.length) = some 0 := by decide
set_option maxRecDepth 100000 in
theorem ct_x1_init {cs : Cs} {z : Nat} (sz sl : Nat) (kd : Kd) (P : Ptr) (I : Mem) (a : Nat) (ha : kd a = (41, 0, 0)) : CtB cs z yX1_init cX1_init 2 none (5) (100) [.ref a] (sz, sl, kd, P, I) (fun _ => none) (x1_init z (cs 300) sz sl kd P I a) := by
  refine CtB.ofM RX1 (by decide) rfl (Nat.le_of_ble_eq_true rfl) ?_
  intro l D p e s m args below meth c hlt hsh K hr hlk hname hK
  refine g_sub (ls' := [(0, .ref a)]) [0] rfl ?_
  refine g_aloadn K 0 rfl rfl 1 dX1_init_0 rfl ?_
  refine ga_objInit K hK hsh 4 q199 q192 q193 (Nat.le_of_ble_eq_true rfl) (Nat.le_of_ble_eq_true rfl) (Nat.le_of_ble_eq_true rfl) dX1_init_1 rfl ?_
  refine g_aloadn K 0 rfl rfl 5 dX1_init_4 rfl ?_
  refine g_bipush K (nI 12) bp_12 7 dX1_init_5 rfl ?_
  refine ga_newo K hK hsh (ci := 3) (t0 := 3) (k := 63) 10 dX1_init_7 rfl q200 (by unfold aoL; simp) rfl (fun _ _ => rfl) (by show plainK 63; unfold plainK; omega) (fun len2 hl3 hn1 hsh => ?_)
  refine g_nmA (fun sz4 sl4 kd4 P4 I4 _ _ he4 _ _ => ?_)
  replace hsh : Shp z kd4 := by rw [he4]; exact hsh
  have hk5 := kd_keep hn1 he4 (Nat.le_of_ble_eq_true rfl) ha
  refine ga_putpF K hK hsh 0 (ty := .array (.object "GingerRents$House")) 13 in_X1 tyX1 tyX1_ok nmX1 hk5 rfl rfl (Nat.le_of_ble_eq_true rfl) rfl (by decide) q294 rfl hname rfl (by decide +kernel) rfl rfl (Nat.le_of_ble_eq_true rfl) dX1_init_10 rfl (fun P6 _ => ?_)
  refine g_aloadn K 0 rfl rfl 14 dX1_init_13 rfl ?_
  refine g_sipush K (nI 150) sp_150 17 dX1_init_14 rfl ?_
  refine g_iconst K (nI 4) ic_4 18 dX1_init_17 rfl ?_
  refine ga_multi K hK hsh 22 dX1_init_18 rfl q202 q220 (fun N7 M8 hN9 hM10 hn11 hsh => ?_)
  dsimp only
  refine g_nmA (fun sz13 sl13 kd13 P13 I13 _ _ he13 _ _ => ?_)
  replace hsh : Shp z kd13 := by rw [he13]; exact hsh
  have hk14 := kdM_k hn11 he13 (Nat.le_of_ble_eq_true rfl) hk5
  refine ga_putpF K hK hsh 1 (ty := .array (.array (.int))) 25 in_X1 tyX1 tyX1_ok nmX1 hk14 rfl rfl (Nat.le_of_ble_eq_true rfl) rfl (by decide) q299 rfl hname rfl (by decide +kernel) rfl rfl (Nat.le_of_ble_eq_true rfl) dX1_init_22 rfl (fun P15 _ => ?_)
  refine g_aloadn K 0 rfl rfl 26 dX1_init_25 rfl ?_
  refine ga_new K hK hsh (ci := 2) (42, 0, 0) 29 in_X2 tyX2 tyX2_ok q204 q205 q153 rfl (fun _ => rfl) (by decide) (by show plainK 42; unfold plainK; omega) dX1_init_26 rfl (fun hn16 hsh => ?_)
  refine g_nmA (fun sz17 sl17 kd17 P17 I17 _ _ he17 _ _ => ?_)
  replace hsh : Shp z kd17 := by rw [he17]; exact hsh
  have hk18 := kd_keep hn16 he17 (Nat.le_of_ble_eq_true rfl) hk14
  refine g_dup K rfl 30 dX1_init_29 rfl ?_
  refine g_bipush K (nI 9) bp_9 32 dX1_init_30 rfl ?_
  have hp19 := (kd_new he17)
  refine gb_callI K hK hsh hlt 35 (ct_x2_init sz17 sl17 kd17 P17 I17 sz13 (nI 9) hp19) (lw_meth q208) q153 q206 q207 rfl wdb_x2_init (by decide) rfl (Nat.le_of_ble_eq_true rfl) dX1_init_32 rfl (fun u21 sz20 sl20 kd20 P20 I20 _ => ?_)
  try dsimp only
  refine g_chk (fun hc => ?_)
  obtain ⟨hsh, hx22, hw23, hf24⟩ := hc
  have hk25 := hw23
  refine ga_putpF K hK hsh 2 (ty := .object "GingerRents$Rows") 38 in_X1 tyX1 tyX1_ok nmX1 hk25 rfl rfl (Nat.le_of_ble_eq_true rfl) rfl (by decide) q301 rfl hname rfl (by decide +kernel) rfl rfl (Nat.le_of_ble_eq_true rfl) dX1_init_35 rfl (fun P26 _ => ?_)
  refine g_aloadn K 0 rfl rfl 39 dX1_init_38 rfl ?_
  refine ga_new K hK hsh (ci := 2) (42, 0, 0) 42 in_X2 tyX2 tyX2_ok q204 q205 q153 rfl (fun _ => rfl) (by decide) (by show plainK 42; unfold plainK; omega) dX1_init_39 rfl (fun hn27 hsh => ?_)
  refine g_nmA (fun sz28 sl28 kd28 P28 I28 _ _ he28 _ _ => ?_)
  replace hsh : Shp z kd28 := by rw [he28]; exact hsh
  have hk29 := kd_keep hn27 he28 (Nat.le_of_ble_eq_true rfl) hk25
  refine g_dup K rfl 43 dX1_init_42 rfl ?_
  refine g_bipush K (nI 8) bp_8 45 dX1_init_43 rfl ?_
  have hp30 := (kd_new he28)
  refine gb_callI K hK hsh hlt 48 (ct_x2_init sz28 sl28 kd28 P28 I28 sz20 (nI 8) hp30) (lw_meth q208) q153 q206 q207 rfl wdb_x2_init (by decide) rfl (Nat.le_of_ble_eq_true rfl) dX1_init_45 rfl (fun u32 sz31 sl31 kd31 P31 I31 _ => ?_)
  try dsimp only
  refine g_chk (fun hc => ?_)
  obtain ⟨hsh, hx33, hw34, hf35⟩ := hc
  have hk36 := hw34
  refine ga_putpF K hK hsh 3 (ty := .object "GingerRents$Rows") 51 in_X1 tyX1 tyX1_ok nmX1 hk36 rfl rfl (Nat.le_of_ble_eq_true rfl) rfl (by decide) q303 rfl hname rfl (by decide +kernel) rfl rfl (Nat.le_of_ble_eq_true rfl) dX1_init_48 rfl (fun P37 _ => ?_)
  refine g_aloadn K 0 rfl rfl 52 dX1_init_51 rfl ?_
  refine ga_new K hK hsh (ci := 2) (42, 0, 0) 55 in_X2 tyX2 tyX2_ok q204 q205 q153 rfl (fun _ => rfl) (by decide) (by show plainK 42; unfold plainK; omega) dX1_init_52 rfl (fun hn38 hsh => ?_)
  refine g_nmA (fun sz39 sl39 kd39 P39 I39 _ _ he39 _ _ => ?_)
  replace hsh : Shp z kd39 := by rw [he39]; exact hsh
  have hk40 := kd_keep hn38 he39 (Nat.le_of_ble_eq_true rfl) hk36
  refine g_dup K rfl 56 dX1_init_55 rfl ?_
  refine g_iconst K (nI 5) ic_5 57 dX1_init_56 rfl ?_
  have hp41 := (kd_new he39)
  refine gb_callI K hK hsh hlt 60 (ct_x2_init sz39 sl39 kd39 P39 I39 sz31 (nI 5) hp41) (lw_meth q208) q153 q206 q207 rfl wdb_x2_init (by decide) rfl (Nat.le_of_ble_eq_true rfl) dX1_init_57 rfl (fun u43 sz42 sl42 kd42 P42 I42 _ => ?_)
  try dsimp only
  refine g_chk (fun hc => ?_)
  obtain ⟨hsh, hx44, hw45, hf46⟩ := hc
  have hk47 := hw45
  refine ga_putpF K hK hsh 4 (ty := .object "GingerRents$Rows") 63 in_X1 tyX1 tyX1_ok nmX1 hk47 rfl rfl (Nat.le_of_ble_eq_true rfl) rfl (by decide) q305 rfl hname rfl (by decide +kernel) rfl rfl (Nat.le_of_ble_eq_true rfl) dX1_init_60 rfl (fun P48 _ => ?_)
  refine g_aloadn K 0 rfl rfl 64 dX1_init_63 rfl ?_
  refine ga_new K hK hsh (ci := 2) (42, 0, 0) 67 in_X2 tyX2 tyX2_ok q204 q205 q153 rfl (fun _ => rfl) (by decide) (by show plainK 42; unfold plainK; omega) dX1_init_64 rfl (fun hn49 hsh => ?_)
  refine g_nmA (fun sz50 sl50 kd50 P50 I50 _ _ he50 _ _ => ?_)
  replace hsh : Shp z kd50 := by rw [he50]; exact hsh
  have hk51 := kd_keep hn49 he50 (Nat.le_of_ble_eq_true rfl) hk47
  refine g_dup K rfl 68 dX1_init_67 rfl ?_
  refine g_bipush K (nI 8) bp_8 70 dX1_init_68 rfl ?_
  have hp52 := (kd_new he50)
  refine gb_callI K hK hsh hlt 73 (ct_x2_init sz50 sl50 kd50 P50 I50 sz42 (nI 8) hp52) (lw_meth q208) q153 q206 q207 rfl wdb_x2_init (by decide) rfl (Nat.le_of_ble_eq_true rfl) dX1_init_70 rfl (fun u54 sz53 sl53 kd53 P53 I53 _ => ?_)
  try dsimp only
  refine g_chk (fun hc => ?_)
  obtain ⟨hsh, hx55, hw56, hf57⟩ := hc
  have hk58 := hw56
  refine ga_putpF K hK hsh 5 (ty := .object "GingerRents$Rows") 76 in_X1 tyX1 tyX1_ok nmX1 hk58 rfl rfl (Nat.le_of_ble_eq_true rfl) rfl (by decide) q307 rfl hname rfl (by decide +kernel) rfl rfl (Nat.le_of_ble_eq_true rfl) dX1_init_73 rfl (fun P59 _ => ?_)
  refine g_aloadn K 0 rfl rfl 77 dX1_init_76 rfl ?_
  refine ga_new K hK hsh (ci := 2) (42, 0, 0) 80 in_X2 tyX2 tyX2_ok q204 q205 q153 rfl (fun _ => rfl) (by decide) (by show plainK 42; unfold plainK; omega) dX1_init_77 rfl (fun hn60 hsh => ?_)
  refine g_nmA (fun sz61 sl61 kd61 P61 I61 _ _ he61 _ _ => ?_)
  replace hsh : Shp z kd61 := by rw [he61]; exact hsh
  have hk62 := kd_keep hn60 he61 (Nat.le_of_ble_eq_true rfl) hk58
  refine g_dup K rfl 81 dX1_init_80 rfl ?_
  refine g_bipush K (nI 16) bp_16 83 dX1_init_81 rfl ?_
  have hp63 := (kd_new he61)
  refine gb_callI K hK hsh hlt 86 (ct_x2_init sz61 sl61 kd61 P61 I61 sz53 (nI 16) hp63) (lw_meth q208) q153 q206 q207 rfl wdb_x2_init (by decide) rfl (Nat.le_of_ble_eq_true rfl) dX1_init_83 rfl (fun u65 sz64 sl64 kd64 P64 I64 _ => ?_)
  try dsimp only
  refine g_chk (fun hc => ?_)
  obtain ⟨hsh, hx66, hw67, hf68⟩ := hc
  have hk69 := hw67
  refine ga_putpF K hK hsh 6 (ty := .object "GingerRents$Rows") 89 in_X1 tyX1 tyX1_ok nmX1 hk69 rfl rfl (Nat.le_of_ble_eq_true rfl) rfl (by decide) q309 rfl hname rfl (by decide +kernel) rfl rfl (Nat.le_of_ble_eq_true rfl) dX1_init_86 rfl (fun P70 _ => ?_)
  refine g_aloadn K 0 rfl rfl 90 dX1_init_89 rfl ?_
  refine ga_new K hK hsh (ci := 2) (42, 0, 0) 93 in_X2 tyX2 tyX2_ok q204 q205 q153 rfl (fun _ => rfl) (by decide) (by show plainK 42; unfold plainK; omega) dX1_init_90 rfl (fun hn71 hsh => ?_)
  refine g_nmA (fun sz72 sl72 kd72 P72 I72 _ _ he72 _ _ => ?_)
  replace hsh : Shp z kd72 := by rw [he72]; exact hsh
  have hk73 := kd_keep hn71 he72 (Nat.le_of_ble_eq_true rfl) hk69
  refine g_dup K rfl 94 dX1_init_93 rfl ?_
  refine g_bipush K (nI 6) bp_6 96 dX1_init_94 rfl ?_
  have hp74 := (kd_new he72)
  refine gb_callI K hK hsh hlt 99 (ct_x2_init sz72 sl72 kd72 P72 I72 sz64 (nI 6) hp74) (lw_meth q208) q153 q206 q207 rfl wdb_x2_init (by decide) rfl (Nat.le_of_ble_eq_true rfl) dX1_init_96 rfl (fun u76 sz75 sl75 kd75 P75 I75 _ => ?_)
  try dsimp only
  refine g_chk (fun hc => ?_)
  obtain ⟨hsh, hx77, hw78, hf79⟩ := hc
  have hk80 := hw78
  refine ga_putpF K hK hsh 7 (ty := .object "GingerRents$Rows") 102 in_X1 tyX1 tyX1_ok nmX1 hk80 rfl rfl (Nat.le_of_ble_eq_true rfl) rfl (by decide) q311 rfl hname rfl (by decide +kernel) rfl rfl (Nat.le_of_ble_eq_true rfl) dX1_init_99 rfl (fun P81 _ => ?_)
  refine g_aloadn K 0 rfl rfl 103 dX1_init_102 rfl ?_
  refine ga_new K hK hsh (ci := 2) (42, 0, 0) 106 in_X2 tyX2 tyX2_ok q204 q205 q153 rfl (fun _ => rfl) (by decide) (by show plainK 42; unfold plainK; omega) dX1_init_103 rfl (fun hn82 hsh => ?_)
  refine g_nmA (fun sz83 sl83 kd83 P83 I83 _ _ he83 _ _ => ?_)
  replace hsh : Shp z kd83 := by rw [he83]; exact hsh
  have hk84 := kd_keep hn82 he83 (Nat.le_of_ble_eq_true rfl) hk80
  refine g_dup K rfl 107 dX1_init_106 rfl ?_
  refine g_bipush K (nI 12) bp_12 109 dX1_init_107 rfl ?_
  have hp85 := (kd_new he83)
  refine gb_callI K hK hsh hlt 112 (ct_x2_init sz83 sl83 kd83 P83 I83 sz75 (nI 12) hp85) (lw_meth q208) q153 q206 q207 rfl wdb_x2_init (by decide) rfl (Nat.le_of_ble_eq_true rfl) dX1_init_109 rfl (fun u87 sz86 sl86 kd86 P86 I86 _ => ?_)
  try dsimp only
  refine g_chk (fun hc => ?_)
  obtain ⟨hsh, hx88, hw89, hf90⟩ := hc
  have hk91 := hw89
  refine ga_putpF K hK hsh 8 (ty := .object "GingerRents$Rows") 115 in_X1 tyX1 tyX1_ok nmX1 hk91 rfl rfl (Nat.le_of_ble_eq_true rfl) rfl (by decide) q313 rfl hname rfl (by decide +kernel) rfl rfl (Nat.le_of_ble_eq_true rfl) dX1_init_112 rfl (fun P92 _ => ?_)
  refine g_aloadn K 0 rfl rfl 116 dX1_init_115 rfl ?_
  refine ga_new K hK hsh (ci := 2) (42, 0, 0) 119 in_X2 tyX2 tyX2_ok q204 q205 q153 rfl (fun _ => rfl) (by decide) (by show plainK 42; unfold plainK; omega) dX1_init_116 rfl (fun hn93 hsh => ?_)
  refine g_nmA (fun sz94 sl94 kd94 P94 I94 _ _ he94 _ _ => ?_)
  replace hsh : Shp z kd94 := by rw [he94]; exact hsh
  have hk95 := kd_keep hn93 he94 (Nat.le_of_ble_eq_true rfl) hk91
  refine g_dup K rfl 120 dX1_init_119 rfl ?_
  refine g_bipush K (nI 8) bp_8 122 dX1_init_120 rfl ?_
  have hp96 := (kd_new he94)
  refine gb_callI K hK hsh hlt 125 (ct_x2_init sz94 sl94 kd94 P94 I94 sz86 (nI 8) hp96) (lw_meth q208) q153 q206 q207 rfl wdb_x2_init (by decide) rfl (Nat.le_of_ble_eq_true rfl) dX1_init_122 rfl (fun u98 sz97 sl97 kd97 P97 I97 _ => ?_)
  try dsimp only
  refine g_chk (fun hc => ?_)
  obtain ⟨hsh, hx99, hw100, hf101⟩ := hc
  have hk102 := hw100
  refine ga_putpF K hK hsh 9 (ty := .object "GingerRents$Rows") 128 in_X1 tyX1 tyX1_ok nmX1 hk102 rfl rfl (Nat.le_of_ble_eq_true rfl) rfl (by decide) q315 rfl hname rfl (by decide +kernel) rfl rfl (Nat.le_of_ble_eq_true rfl) dX1_init_125 rfl (fun P103 _ => ?_)
  refine g_aloadn K 0 rfl rfl 129 dX1_init_128 rfl ?_
  refine ga_new K hK hsh (ci := 18) (18, 0, 0) 132 in_J2 tyJ2 tyJ2_ok q221 q222 q156 rfl (fun _ => rfl) (by decide) (by show plainK 18; unfold plainK; omega) dX1_init_129 rfl (fun hn104 hsh => ?_)
  refine g_nmA (fun sz105 sl105 kd105 P105 I105 _ _ he105 _ _ => ?_)
  replace hsh : Shp z kd105 := by rw [he105]; exact hsh
  have hk106 := kd_keep hn104 he105 (Nat.le_of_ble_eq_true rfl) hk102
  refine g_dup K rfl 133 dX1_init_132 rfl ?_
  have hp107 := (kd_new he105)
  refine gb_callI K hK hsh hlt 136 (ct_j2_init sz105 sl105 kd105 P105 I105 sz97 hp107) (lw_meth q225) q156 q223 q224 rfl wdb_j2_init (by decide) rfl (Nat.le_of_ble_eq_true rfl) dX1_init_133 rfl (fun u109 sz108 sl108 kd108 P108 I108 _ => ?_)
  try dsimp only
  refine g_chk (fun hc => ?_)
  obtain ⟨hsh, hx110, hw111⟩ := hc
  have hk112 := hw111
  have hk113 := hx110.at hp107 (Nat.le_of_ble_eq_true rfl)
  refine gx_putp K hK hsh 10 (ty := .object "java/util/ArrayList") 139 in_X1 tyX1 tyX1_ok nmX1 hk112 rfl rfl (Nat.le_of_ble_eq_true rfl) rfl (by decide) (Or.inl q317) rfl (by decide +kernel) rfl rfl (Nat.le_of_ble_eq_true rfl) dX1_init_136 rfl (fun P114 _ => ?_)
  refine g_aloadn K 0 rfl rfl 140 dX1_init_139 rfl ?_
  refine ga_new K hK hsh (ci := 18) (18, 0, 0) 143 in_J2 tyJ2 tyJ2_ok q221 q222 q156 rfl (fun _ => rfl) (by decide) (by show plainK 18; unfold plainK; omega) dX1_init_140 rfl (fun hn115 hsh => ?_)
  refine g_nmA (fun sz116 sl116 kd116 P116 I116 _ _ he116 _ _ => ?_)
  replace hsh : Shp z kd116 := by rw [he116]; exact hsh
  have hk117 := kd_keep hn115 he116 (Nat.le_of_ble_eq_true rfl) hk112
  refine g_dup K rfl 144 dX1_init_143 rfl ?_
  have hp118 := (kd_new he116)
  refine gb_callI K hK hsh hlt 147 (ct_j2_init sz116 sl116 kd116 P116 I116 sz108 hp118) (lw_meth q225) q156 q223 q224 rfl wdb_j2_init (by decide) rfl (Nat.le_of_ble_eq_true rfl) dX1_init_144 rfl (fun u120 sz119 sl119 kd119 P119 I119 _ => ?_)
  try dsimp only
  refine g_chk (fun hc => ?_)
  obtain ⟨hsh, hx121, hw122⟩ := hc
  have hk123 := hw122
  have hk124 := hx121.at hp118 (Nat.le_of_ble_eq_true rfl)
  refine gx_putp K hK hsh 11 (ty := .object "java/util/ArrayList") 150 in_X1 tyX1 tyX1_ok nmX1 hk123 rfl rfl (Nat.le_of_ble_eq_true rfl) rfl (by decide) (Or.inl q319) rfl (by decide +kernel) rfl rfl (Nat.le_of_ble_eq_true rfl) dX1_init_147 rfl (fun P125 _ => ?_)
  refine g_aloadn K 0 rfl rfl 151 dX1_init_150 rfl ?_
  refine ga_new K hK hsh (ci := 18) (18, 0, 0) 154 in_J2 tyJ2 tyJ2_ok q221 q222 q156 rfl (fun _ => rfl) (by decide) (by show plainK 18; unfold plainK; omega) dX1_init_151 rfl (fun hn126 hsh => ?_)
  refine g_nmA (fun sz127 sl127 kd127 P127 I127 _ _ he127 _ _ => ?_)
  replace hsh : Shp z kd127 := by rw [he127]; exact hsh
  have hk128 := kd_keep hn126 he127 (Nat.le_of_ble_eq_true rfl) hk123
  refine g_dup K rfl 155 dX1_init_154 rfl ?_
  have hp129 := (kd_new he127)
  refine gb_callI K hK hsh hlt 158 (ct_j2_init sz127 sl127 kd127 P127 I127 sz119 hp129) (lw_meth q225) q156 q223 q224 rfl wdb_j2_init (by decide) rfl (Nat.le_of_ble_eq_true rfl) dX1_init_155 rfl (fun u131 sz130 sl130 kd130 P130 I130 _ => ?_)
  try dsimp only
  refine g_chk (fun hc => ?_)
  obtain ⟨hsh, hx132, hw133⟩ := hc
  have hk134 := hw133
  have hk135 := hx132.at hp129 (Nat.le_of_ble_eq_true rfl)
  refine gx_putp K hK hsh 12 (ty := .object "java/util/ArrayList") 161 in_X1 tyX1 tyX1_ok nmX1 hk134 rfl rfl (Nat.le_of_ble_eq_true rfl) rfl (by decide) (Or.inl q321) rfl (by decide +kernel) rfl rfl (Nat.le_of_ble_eq_true rfl) dX1_init_158 rfl (fun P136 _ => ?_)
  refine g_aloadn K 0 rfl rfl 162 dX1_init_161 rfl ?_
  refine g_bipush K (nI 12) bp_12 164 dX1_init_162 rfl ?_
  refine ga_newi K hK hsh 166 dX1_init_164 rfl q220 (fun len138 hl139 hn137 hsh => ?_)
  refine g_nmA (fun sz140 sl140 kd140 P140 I140 _ _ he140 _ _ => ?_)
  replace hsh : Shp z kd140 := by rw [he140]; exact hsh
  have hk141 := kd_keep hn137 he140 (Nat.le_of_ble_eq_true rfl) hk134
  refine gx_putp K hK hsh 13 (ty := .array .int) 169 in_X1 tyX1 tyX1_ok nmX1 hk141 rfl rfl (Nat.le_of_ble_eq_true rfl) rfl (by decide) (Or.inl q323) rfl (by decide +kernel) rfl rfl (Nat.le_of_ble_eq_true rfl) dX1_init_166 rfl (fun P142 _ => ?_)
  refine g_iconst K (nI 0) ic_0 170 dX1_init_169 rfl ?_
  refine g_istoren K [(0, .ref a), (1, .int (nI 0))] [1, 0] rfl (by decide) rfl 171 dX1_init_170 rfl ?_
  refine gx_of ?_
  refine g_lp (head := 171) (L := fun (j143 : Int32 × Nat × Nat × Kd × Ptr × Mem) => [(0, .ref a), (1, .int j143.1)]) (sf := fun j143 => []) (mf := fun j143 => (j143.2.1, j143.2.2.1, j143.2.2.2.1, j143.2.2.2.2.1, j143.2.2.2.2.2)) (fun again144 h145 j143 => ?_) fuel ((nI 0), sz140, sl140, kd140, P142, I140)
  try dsimp only
  refine gy_of ?_
  refine g_chk (fun hc => ?_)
  obtain ⟨hsh, hx146, hw147⟩ := hc
  have hk148 := hw147
  refine g_iloadn K 1 rfl rfl 172 dX1_init_171 rfl ?_
  refine g_bipush K (nI 12) bp_12 174 dX1_init_172 rfl ?_
  refine g_icmp_ge K 177 196 dX1_init_174 rfl (by decide) (fun _ => ?_) (fun _ => ?_)
  · refine g_chk (fun hcv149 => ?_)
    refine g_cv (hcv149 cs) ?_
    exact ga_vret K hr hlk dX1_init_196 rfl
  · refine g_aloadn K 0 rfl rfl 178 dX1_init_177 rfl ?_
    refine gx_getp K hK hsh 0 (63, 12, 0) 181 in_X1 hk148 rfl (Nat.le_of_ble_eq_true rfl) rfl (by decide) (Or.inl q294) rfl dX1_init_178 rfl (fun b150 hb151 => ?_)
    refine g_iloadn K 1 rfl rfl 182 dX1_init_181 rfl ?_
    refine ga_new K hK hsh (ci := 3) (43, 0, 0) 185 in_X3 tyX3 tyX3_ok q200 q247 q157 rfl (fun _ => rfl) (by decide) (by show plainK 43; unfold plainK; omega) dX1_init_182 rfl (fun hn152 hsh => ?_)
    refine g_nmA (fun sz153 sl153 kd153 P153 I153 _ _ he153 _ _ => ?_)
    replace hsh : Shp z kd153 := by rw [he153]; exact hsh
    have hk154 := kd_keep hn152 he153 (Nat.le_of_ble_eq_true rfl) hk148
    have hk155 := kd_keep hn152 he153 (Nat.le_of_ble_eq_true rfl) hb151
    refine g_dup K rfl 186 dX1_init_185 rfl ?_
    have hp156 := (kd_new he153)
    refine gb_callIN K hK hsh hlt 189 (ct_x3_init sz153 sl153 kd153 P153 I153 j143.2.1 hp156) (lw_meth q250) q157 (nm_q248 hK.2) q249 rfl wdb_x3_init (by decide) rfl (Nat.le_of_ble_eq_true rfl) dX1_init_186 rfl (fun u158 sz157 sl157 kd157 P157 I157 _ => ?_)
    try dsimp only
    refine g_chk (fun hc => ?_)
    obtain ⟨hsh, hx159, hw160, hw161, hf162⟩ := hc
    have hk163 := hw160
    have hk164 := hw161
    refine ga_hast K hK hsh 190 hk164 hf162 dX1_init_189 rfl (fun P165 => ?_)
    refine g_iinc K (j143.1 + (nI 1)) 1 [(0, .ref a), (1, .int (j143.1 + (nI 1)))] [1, 0] rfl (by rw [ic_1]) (by decide) rfl 193 dX1_init_190 rfl ?_
    refine g_goto K 171 dX1_init_193 (by decide) ?_
    exact gx_of (h145 ((j143.1 + (nI 1)), sz157, sl157, kd157, P165, I157))
/-- GingerRents.<init>()V -/
noncomputable def x0_init (z : Nat) (em : Nat) (sz sl : Nat) (kd : Kd) (P : Ptr) (I : Mem) : Option (Unit × Sy) := moB sz sl <|
  (alA z kd sz (nI 400)).bind fun len2 =>
  nmA (sz + 1) (sl + len2) (upA kd sz (21, len2, 0)) (upA P sz (fun _ => none)) (upA I sz (fun _ => 0)) fun sz4 sl4 kd4 P4 I4 =>
  nm (upP P4 z 0 (some sz)) fun P6 =>
  nm (up2 I4 z 3 (-1 : Int32)) fun I7 =>
  (al z kd4 sz4).bind fun _ =>
  nmA (sz4 + 1) (sl4 + 26) (upA kd4 sz4 (41, 0, 0)) (upA P6 sz4 (fun _ => none)) (upA I7 sz4 (fun _ => 0)) fun sz9 sl9 kd9 P9 I9 =>
  cal (x1_init z em sz9 sl9 kd9 P9 I9 sz4) fun u13 sz12 sl12 kd12 P12 I12 =>
  chk (Shp z kd12 ∧ Ext kd9 kd12 ∧ kd12 z = (40, 0, 0) ∧ kd12 sz4 = (1, 0, 0)) (
  nm (upP P12 z 4 (some sz4)) fun P18 =>
  (al z kd12 sz12).bind fun _ =>
  nmA (sz12 + 1) (sl12 + 26) (upA kd12 sz12 (41, 0, 0)) (upA P18 sz12 (fun _ => none)) (upA I12 sz12 (fun _ => 0)) fun sz20 sl20 kd20 P20 I20 =>
  cal (x1_init z em sz20 sl20 kd20 P20 I20 sz12) fun u24 sz23 sl23 kd23 P23 I23 =>
  chk (Shp z kd23 ∧ Ext kd20 kd23 ∧ kd23 z = (40, 0, 0) ∧ kd23 sz12 = (1, 0, 0)) (
  nm (upP P23 z 5 (some sz12)) fun P29 =>
  (al z kd23 sz23).bind fun _ =>
  nmA (sz23 + 1) (sl23 + 26) (upA kd23 sz23 (41, 0, 0)) (upA P29 sz23 (fun _ => none)) (upA I23 sz23 (fun _ => 0)) fun sz31 sl31 kd31 P31 I31 =>
  cal (x1_init z em sz31 sl31 kd31 P31 I31 sz23) fun u35 sz34 sl34 kd34 P34 I34 =>
  chk (Shp z kd34 ∧ Ext kd31 kd34 ∧ kd34 z = (40, 0, 0) ∧ kd34 sz23 = (1, 0, 0)) (
  nm (upP P34 z 6 (some sz23)) fun P40 =>
  (alA z kd34 sz34 (nI 6)).bind fun len42 =>
  nmA (sz34 + 1) (sl34 + len42) (upA kd34 sz34 (24, len42, 0)) (upA P40 sz34 (fun _ => none)) (upA I34 sz34 (fun _ => 0)) fun sz44 sl44 kd44 P44 I44 =>
  nm (upP P44 z 7 (some sz34)) fun P46 =>
  (pk kd44 (P46 z 6) (1, 0, 0)).bind fun b47 =>
  nm (up2 I44 b47 23 (nI 1)) fun I49 =>
  lp (fun again51 (j50 : Int32 × Nat × Nat × Kd × Ptr × Mem) =>
  chk (Shp z j50.2.2.2.1 ∧ Ext kd44 j50.2.2.2.1 ∧ j50.2.2.2.1 z = (40, 0, 0)) (
  if (nI 6) ≤ j50.1 then
  (alA z j50.2.2.2.1 j50.2.1 (nI 12)).bind fun len57 =>
  nmA (j50.2.1 + 1) (j50.2.2.1 + len57) (upA j50.2.2.2.1 j50.2.1 (20, len57, 0)) (upA j50.2.2.2.2.1 j50.2.1 (fun _ => none)) (upA j50.2.2.2.2.2 j50.2.1 (fun _ => 0)) fun sz59 sl59 kd59 P59 I59 =>
  nm (upP P59 z 10 (some j50.2.1)) fun P61 =>
  (alM z kd59 sz59 (nI 10) (nI 10)).bind fun nm67 =>
  nmA (sz59 + 1 + nm67.1) (sl59 + nm67.1 + nm67.1 * nm67.2) (kdM kd59 sz59 nm67.1 nm67.2) (upR P61 sz59 (nm67.1 + 1) (fun _ => none)) (upR I59 sz59 (nm67.1 + 1) (fun _ => 0)) fun sz68 sl68 kd68 P68 I68 =>
  nm (upP P68 z 11 (some sz59)) fun P70 =>
  (alA z kd68 sz68 (nI 256)).bind fun len72 =>
  nmA (sz68 + 1) (sl68 + len72) (upA kd68 sz68 (20, len72, 0)) (upA P70 sz68 (fun _ => none)) (upA I68 sz68 (fun _ => 0)) fun sz74 sl74 kd74 P74 I74 =>
  nm (upP P74 z 12 (some sz68)) fun P76 =>
  (alA z kd74 sz74 (nI 1089)).bind fun len78 =>
  nmA (sz74 + 1) (sl74 + len78) (upA kd74 sz74 (20, len78, 0)) (upA P76 sz74 (fun _ => none)) (upA I74 sz74 (fun _ => 0)) fun sz80 sl80 kd80 P80 I80 =>
  nm (upP P80 z 13 (some sz74)) fun P82 =>
  (alA z kd80 sz80 (nI 6)).bind fun len84 =>
  nmA (sz80 + 1) (sl80 + len84) (upA kd80 sz80 (20, len84, 0)) (upA P82 sz80 (fun _ => none)) (upA I80 sz80 (fun _ => 0)) fun sz86 sl86 kd86 P86 I86 =>
  nm (upP P86 z 14 (some sz80)) fun P88 =>
  (alA z kd86 sz86 (nI 6)).bind fun len90 =>
  nmA (sz86 + 1) (sl86 + len90) (upA kd86 sz86 (20, len90, 0)) (upA P88 sz86 (fun _ => none)) (upA I86 sz86 (fun _ => 0)) fun sz92 sl92 kd92 P92 I92 =>
  nm (upP P92 z 15 (some sz86)) fun P94 =>
  (alM z kd92 sz92 (nI 21) (nI 4)).bind fun nm100 =>
  nmA (sz92 + 1 + nm100.1) (sl92 + nm100.1 + nm100.1 * nm100.2) (kdM kd92 sz92 nm100.1 nm100.2) (upR P94 sz92 (nm100.1 + 1) (fun _ => none)) (upR I92 sz92 (nm100.1 + 1) (fun _ => 0)) fun sz101 sl101 kd101 P101 I101 =>
  nm (upP P101 z 17 (some sz92)) fun P103 =>
  (alA z kd101 sz101 (nI 16807)).bind fun len105 =>
  nmA (sz101 + 1) (sl101 + len105) (upA kd101 sz101 (20, len105, 0)) (upA P103 sz101 (fun _ => none)) (upA I101 sz101 (fun _ => 0)) fun sz107 sl107 kd107 P107 I107 =>
  nm (upP P107 z 18 (some sz101)) fun P109 =>
  chk (∀ cs, cvOk cs z kd107 (upA kd107 z (0, 0, 0)) P109 I107) (some ((), sz107, sl107, (upA kd107 z (0, 0, 0)), P109, I107))
  else
  (pk j50.2.2.2.1 (j50.2.2.2.2.1 z 7) (24, 6, 0)).bind fun b111 =>
  (al z j50.2.2.2.1 j50.2.1).bind fun _ =>
  nmA (j50.2.1 + 1) (j50.2.2.1 + 26) (upA j50.2.2.2.1 j50.2.1 (41, 0, 0)) (upA j50.2.2.2.2.1 j50.2.1 (fun _ => none)) (upA j50.2.2.2.2.2 j50.2.1 (fun _ => 0)) fun sz114 sl114 kd114 P114 I114 =>
  cal (x1_init z em sz114 sl114 kd114 P114 I114 j50.2.1) fun u119 sz118 sl118 kd118 P118 I118 =>
  chk (Shp z kd118 ∧ Ext kd114 kd118 ∧ kd118 z = (40, 0, 0) ∧ kd118 j50.2.1 = (1, 0, 0)) (
  (wrP P118 b111 6 j50.1 j50.2.1).bind fun P125 =>
  again51 ((j50.1 + (nI 1)), sz118, sl118, kd118, P125, I118)))) fuel ((nI 0), sz44, sl44, kd44, P46, I49))))
theorem wdb_x0_init : yX0_init.cls ≠ "java/lang/invoke/MethodHandle" ∧ yX0_init.cls ≠ "java/lang/invoke/VarHandle" ∧ (parseMethodDescriptor yX0_init.desc).map (fun d => d.parameters.length) = some 0 := by decide
set_option maxRecDepth 100000 in
theorem ct_x0_init {cs : Cs} {z : Nat} (sz sl : Nat) (kd : Kd) (P : Ptr) (I : Mem) (ha : kd z = (40, 0, 0)) : CtB cs z yX0_init cX0_init 2 none (6) (121) [.ref z] (sz, sl, kd, P, I) (fun _ => none) (x0_init z (cs 300) sz sl kd P I ) := by
  refine CtB.ofM RX0 (by decide) rfl (Nat.le_of_ble_eq_true rfl) ?_
  intro l D p e s m args below meth c hlt hsh K hr hlk hname hK
  refine g_sub (ls' := [(0, .ref z)]) [0] rfl ?_
  refine g_aloadn K 0 rfl rfl 1 dX0_init_0 rfl ?_
  refine ga_objInit K hK hsh 4 q191 q192 q193 (Nat.le_of_ble_eq_true rfl) (Nat.le_of_ble_eq_true rfl) (Nat.le_of_ble_eq_true rfl) dX0_init_1 rfl ?_
  refine g_aloadn K 0 rfl rfl 5 dX0_init_4 rfl ?_
  refine g_sipush K (nI 400) sp_400 8 dX0_init_5 rfl ?_
  refine ga_newb K hK hsh 10 dX0_init_8 rfl q219 (fun len2 hl3 hn1 hsh => ?_)
  refine g_nmA (fun sz4 sl4 kd4 P4 I4 _ _ he4 _ _ => ?_)
  replace hsh : Shp z kd4 := by rw [he4]; exact hsh
  have hk5 := kd_keep hn1 he4 (Nat.le_of_ble_eq_true rfl) ha
  refine ga_putpF K hK hsh 0 (ty := .array (.byte)) 13 in_X0 tyX0 tyX0_ok nmX0 hk5 rfl rfl (Nat.le_of_ble_eq_true rfl) rfl (by decide) q405 rfl hname rfl (by decide +kernel) rfl rfl (Nat.le_of_ble_eq_true rfl) dX0_init_10 rfl (fun P6 _ => ?_)
  refine g_aloadn K 0 rfl rfl 14 dX0_init_13 rfl ?_
  refine g_iconst K (-1 : Int32) ic_m1 15 dX0_init_14 rfl ?_
  refine gx_put K hK hsh 3 (ty := .int) 18 in_X0 tyX0 tyX0_ok nmX0 hk5 rfl rfl (Nat.le_of_ble_eq_true rfl) rfl (by decide) (Or.inl q410) rfl (by decide +kernel) rfl rfl (Nat.le_of_ble_eq_true rfl) dX0_init_15 rfl (fun I7 _ => ?_)
  refine g_aloadn K 0 rfl rfl 19 dX0_init_18 rfl ?_
  refine ga_new K hK hsh (ci := 1) (41, 0, 0) 22 in_X1 tyX1 tyX1_ok q194 q195 q152 rfl (fun _ => rfl) (by decide) (by show plainK 41; unfold plainK; omega) dX0_init_19 rfl (fun hn8 hsh => ?_)
  refine g_nmA (fun sz9 sl9 kd9 P9 I9 _ _ he9 _ _ => ?_)
  replace hsh : Shp z kd9 := by rw [he9]; exact hsh
  have hk10 := kd_keep hn8 he9 (Nat.le_of_ble_eq_true rfl) hk5
  refine g_dup K rfl 23 dX0_init_22 rfl ?_
  have hp11 := (kd_new he9)
  refine gb_callI K hK hsh hlt 26 (ct_x1_init sz9 sl9 kd9 P9 I9 sz4 hp11) (lw_meth q198) q152 q196 q197 rfl wdb_x1_init (by decide) rfl (Nat.le_of_ble_eq_true rfl) dX0_init_23 rfl (fun u13 sz12 sl12 kd12 P12 I12 _ => ?_)
  try dsimp only
  refine g_chk (fun hc => ?_)
  obtain ⟨hsh, hx14, hw15, hf16⟩ := hc
  have hk17 := hw15
  refine ga_putpF K hK hsh 4 (ty := .object "GingerRents$Borough") 29 in_X0 tyX0 tyX0_ok nmX0 hk17 rfl rfl (Nat.le_of_ble_eq_true rfl) rfl (by decide) q411 rfl hname rfl (by decide +kernel) rfl rfl (Nat.le_of_ble_eq_true rfl) dX0_init_26 rfl (fun P18 _ => ?_)
  refine g_aloadn K 0 rfl rfl 30 dX0_init_29 rfl ?_
  refine ga_new K hK hsh (ci := 1) (41, 0, 0) 33 in_X1 tyX1 tyX1_ok q194 q195 q152 rfl (fun _ => rfl) (by decide) (by show plainK 41; unfold plainK; omega) dX0_init_30 rfl (fun hn19 hsh => ?_)
  refine g_nmA (fun sz20 sl20 kd20 P20 I20 _ _ he20 _ _ => ?_)
  replace hsh : Shp z kd20 := by rw [he20]; exact hsh
  have hk21 := kd_keep hn19 he20 (Nat.le_of_ble_eq_true rfl) hk17
  refine g_dup K rfl 34 dX0_init_33 rfl ?_
  have hp22 := (kd_new he20)
  refine gb_callI K hK hsh hlt 37 (ct_x1_init sz20 sl20 kd20 P20 I20 sz12 hp22) (lw_meth q198) q152 q196 q197 rfl wdb_x1_init (by decide) rfl (Nat.le_of_ble_eq_true rfl) dX0_init_34 rfl (fun u24 sz23 sl23 kd23 P23 I23 _ => ?_)
  try dsimp only
  refine g_chk (fun hc => ?_)
  obtain ⟨hsh, hx25, hw26, hf27⟩ := hc
  have hk28 := hw26
  refine ga_putpF K hK hsh 5 (ty := .object "GingerRents$Borough") 40 in_X0 tyX0 tyX0_ok nmX0 hk28 rfl rfl (Nat.le_of_ble_eq_true rfl) rfl (by decide) q413 rfl hname rfl (by decide +kernel) rfl rfl (Nat.le_of_ble_eq_true rfl) dX0_init_37 rfl (fun P29 _ => ?_)
  refine g_aloadn K 0 rfl rfl 41 dX0_init_40 rfl ?_
  refine ga_new K hK hsh (ci := 1) (41, 0, 0) 44 in_X1 tyX1 tyX1_ok q194 q195 q152 rfl (fun _ => rfl) (by decide) (by show plainK 41; unfold plainK; omega) dX0_init_41 rfl (fun hn30 hsh => ?_)
  refine g_nmA (fun sz31 sl31 kd31 P31 I31 _ _ he31 _ _ => ?_)
  replace hsh : Shp z kd31 := by rw [he31]; exact hsh
  have hk32 := kd_keep hn30 he31 (Nat.le_of_ble_eq_true rfl) hk28
  refine g_dup K rfl 45 dX0_init_44 rfl ?_
  have hp33 := (kd_new he31)
  refine gb_callI K hK hsh hlt 48 (ct_x1_init sz31 sl31 kd31 P31 I31 sz23 hp33) (lw_meth q198) q152 q196 q197 rfl wdb_x1_init (by decide) rfl (Nat.le_of_ble_eq_true rfl) dX0_init_45 rfl (fun u35 sz34 sl34 kd34 P34 I34 _ => ?_)
  try dsimp only
  refine g_chk (fun hc => ?_)
  obtain ⟨hsh, hx36, hw37, hf38⟩ := hc
  have hk39 := hw37
  refine ga_putpF K hK hsh 6 (ty := .object "GingerRents$Borough") 51 in_X0 tyX0 tyX0_ok nmX0 hk39 rfl rfl (Nat.le_of_ble_eq_true rfl) rfl (by decide) q414 rfl hname rfl (by decide +kernel) rfl rfl (Nat.le_of_ble_eq_true rfl) dX0_init_48 rfl (fun P40 _ => ?_)
  refine g_aloadn K 0 rfl rfl 52 dX0_init_51 rfl ?_
  refine g_bipush K (nI 6) bp_6 54 dX0_init_52 rfl ?_
  refine ga_newo K hK hsh (ci := 4) (t0 := 4) (k := 24) 57 dX0_init_54 rfl q194 (by unfold aoL; simp) rfl (fun _ _ => rfl) (by show plainK 24; unfold plainK; omega) (fun len42 hl43 hn41 hsh => ?_)
  refine g_nmA (fun sz44 sl44 kd44 P44 I44 _ _ he44 _ _ => ?_)
  replace hsh : Shp z kd44 := by rw [he44]; exact hsh
  have hk45 := kd_keep hn41 he44 (Nat.le_of_ble_eq_true rfl) hk39
  refine ga_putpF K hK hsh 7 (ty := .array (.object "GingerRents$Borough")) 60 in_X0 tyX0 tyX0_ok nmX0 hk45 rfl rfl (Nat.le_of_ble_eq_true rfl) rfl (by decide) q415 rfl hname rfl (by decide +kernel) rfl rfl (Nat.le_of_ble_eq_true rfl) dX0_init_57 rfl (fun P46 _ => ?_)
  refine g_aloadn K 0 rfl rfl 61 dX0_init_60 rfl ?_
  refine gx_getp K hK hsh 6 (1, 0, 0) 64 in_X0 hk45 rfl (Nat.le_of_ble_eq_true rfl) rfl (by decide) (Or.inl q414) rfl dX0_init_61 rfl (fun b47 hb48 => ?_)
  refine g_iconst K (nI 1) ic_1 65 dX0_init_64 rfl ?_
  refine gx_put K hK hsh 23 (ty := .boolean) 68 in_X1 tyX1 tyX1_ok nmX1 hb48 rfl rfl (Nat.le_of_ble_eq_true rfl) rfl (by decide) (Or.inr (nf_q346 hK.2)) rfl (by decide +kernel) rfl rfl (Nat.le_of_ble_eq_true rfl) dX0_init_65 rfl (fun I49 _ => ?_)
  refine g_iconst K (nI 0) ic_0 69 dX0_init_68 rfl ?_
  refine g_istoren K [(0, .ref z), (1, .int (nI 0))] [1, 0] rfl (by decide) rfl 70 dX0_init_69 rfl ?_
  refine gx_of ?_
  refine g_lp (head := 70) (L := fun (j50 : Int32 × Nat × Nat × Kd × Ptr × Mem) => [(0, .ref z), (1, .int j50.1)]) (sf := fun j50 => []) (mf := fun j50 => (j50.2.1, j50.2.2.1, j50.2.2.2.1, j50.2.2.2.2.1, j50.2.2.2.2.2)) (fun again51 h52 j50 => ?_) fuel ((nI 0), sz44, sl44, kd44, P46, I49)
  try dsimp only
  refine gy_of ?_
  refine g_chk (fun hc => ?_)
  obtain ⟨hsh, hx53, hw54⟩ := hc
  have hk55 := hw54
  refine g_iloadn K 1 rfl rfl 71 dX0_init_70 rfl ?_
  refine g_bipush K (nI 6) bp_6 73 dX0_init_71 rfl ?_
  refine g_icmp_ge K 76 95 dX0_init_73 rfl (by decide) (fun _ => ?_) (fun _ => ?_)
  · refine g_aloadn K 0 rfl rfl 96 dX0_init_95 rfl ?_
    refine g_bipush K (nI 12) bp_12 98 dX0_init_96 rfl ?_
    refine ga_newi K hK hsh 100 dX0_init_98 rfl q220 (fun len57 hl58 hn56 hsh => ?_)
    refine g_nmA (fun sz59 sl59 kd59 P59 I59 _ _ he59 _ _ => ?_)
    replace hsh : Shp z kd59 := by rw [he59]; exact hsh
    have hk60 := kd_keep hn56 he59 (Nat.le_of_ble_eq_true rfl) hk55
    refine ga_putpF K hK hsh 10 (ty := .array (.int)) 103 in_X0 tyX0 tyX0_ok nmX0 hk60 rfl rfl (Nat.le_of_ble_eq_true rfl) rfl (by decide) q418 rfl hname rfl (by decide +kernel) rfl rfl (Nat.le_of_ble_eq_true rfl) dX0_init_100 rfl (fun P61 _ => ?_)
    refine g_aloadn K 0 rfl rfl 104 dX0_init_103 rfl ?_
    refine g_bipush K (nI 10) bp_10 106 dX0_init_104 rfl ?_
    refine g_bipush K (nI 10) bp_10 108 dX0_init_106 rfl ?_
    refine ga_multi K hK hsh 112 dX0_init_108 rfl q404 q220 (fun N62 M63 hN64 hM65 hn66 hsh => ?_)
    dsimp only
    refine g_nmA (fun sz68 sl68 kd68 P68 I68 _ _ he68 _ _ => ?_)
    replace hsh : Shp z kd68 := by rw [he68]; exact hsh
    have hk69 := kdM_k hn66 he68 (Nat.le_of_ble_eq_true rfl) hk60
    refine ga_putpF K hK hsh 11 (ty := .array (.array (.int))) 115 in_X0 tyX0 tyX0_ok nmX0 hk69 rfl rfl (Nat.le_of_ble_eq_true rfl) rfl (by decide) q419 rfl hname rfl (by decide +kernel) rfl rfl (Nat.le_of_ble_eq_true rfl) dX0_init_112 rfl (fun P70 _ => ?_)
    refine g_aloadn K 0 rfl rfl 116 dX0_init_115 rfl ?_
    refine g_sipush K (nI 256) sp_256 119 dX0_init_116 rfl ?_
    refine ga_newi K hK hsh 121 dX0_init_119 rfl q220 (fun len72 hl73 hn71 hsh => ?_)
    refine g_nmA (fun sz74 sl74 kd74 P74 I74 _ _ he74 _ _ => ?_)
    replace hsh : Shp z kd74 := by rw [he74]; exact hsh
    have hk75 := kd_keep hn71 he74 (Nat.le_of_ble_eq_true rfl) hk69
    refine ga_putpF K hK hsh 12 (ty := .array (.int)) 124 in_X0 tyX0 tyX0_ok nmX0 hk75 rfl rfl (Nat.le_of_ble_eq_true rfl) rfl (by decide) q420 rfl hname rfl (by decide +kernel) rfl rfl (Nat.le_of_ble_eq_true rfl) dX0_init_121 rfl (fun P76 _ => ?_)
    refine g_aloadn K 0 rfl rfl 125 dX0_init_124 rfl ?_
    refine g_sipush K (nI 1089) sp_1089 128 dX0_init_125 rfl ?_
    refine ga_newi K hK hsh 130 dX0_init_128 rfl q220 (fun len78 hl79 hn77 hsh => ?_)
    refine g_nmA (fun sz80 sl80 kd80 P80 I80 _ _ he80 _ _ => ?_)
    replace hsh : Shp z kd80 := by rw [he80]; exact hsh
    have hk81 := kd_keep hn77 he80 (Nat.le_of_ble_eq_true rfl) hk75
    refine ga_putpF K hK hsh 13 (ty := .array (.int)) 133 in_X0 tyX0 tyX0_ok nmX0 hk81 rfl rfl (Nat.le_of_ble_eq_true rfl) rfl (by decide) q421 rfl hname rfl (by decide +kernel) rfl rfl (Nat.le_of_ble_eq_true rfl) dX0_init_130 rfl (fun P82 _ => ?_)
    refine g_aloadn K 0 rfl rfl 134 dX0_init_133 rfl ?_
    refine g_bipush K (nI 6) bp_6 136 dX0_init_134 rfl ?_
    refine ga_newi K hK hsh 138 dX0_init_136 rfl q220 (fun len84 hl85 hn83 hsh => ?_)
    refine g_nmA (fun sz86 sl86 kd86 P86 I86 _ _ he86 _ _ => ?_)
    replace hsh : Shp z kd86 := by rw [he86]; exact hsh
    have hk87 := kd_keep hn83 he86 (Nat.le_of_ble_eq_true rfl) hk81
    refine ga_putpF K hK hsh 14 (ty := .array (.int)) 141 in_X0 tyX0 tyX0_ok nmX0 hk87 rfl rfl (Nat.le_of_ble_eq_true rfl) rfl (by decide) q422 rfl hname rfl (by decide +kernel) rfl rfl (Nat.le_of_ble_eq_true rfl) dX0_init_138 rfl (fun P88 _ => ?_)
    refine g_aloadn K 0 rfl rfl 142 dX0_init_141 rfl ?_
    refine g_bipush K (nI 6) bp_6 144 dX0_init_142 rfl ?_
    refine ga_newi K hK hsh 146 dX0_init_144 rfl q220 (fun len90 hl91 hn89 hsh => ?_)
    refine g_nmA (fun sz92 sl92 kd92 P92 I92 _ _ he92 _ _ => ?_)
    replace hsh : Shp z kd92 := by rw [he92]; exact hsh
    have hk93 := kd_keep hn89 he92 (Nat.le_of_ble_eq_true rfl) hk87
    refine ga_putpF K hK hsh 15 (ty := .array (.int)) 149 in_X0 tyX0 tyX0_ok nmX0 hk93 rfl rfl (Nat.le_of_ble_eq_true rfl) rfl (by decide) q423 rfl hname rfl (by decide +kernel) rfl rfl (Nat.le_of_ble_eq_true rfl) dX0_init_146 rfl (fun P94 _ => ?_)
    refine g_aloadn K 0 rfl rfl 150 dX0_init_149 rfl ?_
    refine g_bipush K (nI 21) bp_21 152 dX0_init_150 rfl ?_
    refine g_iconst K (nI 4) ic_4 153 dX0_init_152 rfl ?_
    refine ga_multi K hK hsh 157 dX0_init_153 rfl q404 q220 (fun N95 M96 hN97 hM98 hn99 hsh => ?_)
    dsimp only
    refine g_nmA (fun sz101 sl101 kd101 P101 I101 _ _ he101 _ _ => ?_)
    replace hsh : Shp z kd101 := by rw [he101]; exact hsh
    have hk102 := kdM_k hn99 he101 (Nat.le_of_ble_eq_true rfl) hk93
    refine ga_putpF K hK hsh 17 (ty := .array (.array (.int))) 160 in_X0 tyX0 tyX0_ok nmX0 hk102 rfl rfl (Nat.le_of_ble_eq_true rfl) rfl (by decide) q425 rfl hname rfl (by decide +kernel) rfl rfl (Nat.le_of_ble_eq_true rfl) dX0_init_157 rfl (fun P103 _ => ?_)
    refine g_aloadn K 0 rfl rfl 161 dX0_init_160 rfl ?_
    refine g_sipush K (nI 16807) sp_16807 164 dX0_init_161 rfl ?_
    refine ga_newi K hK hsh 166 dX0_init_164 rfl q220 (fun len105 hl106 hn104 hsh => ?_)
    refine g_nmA (fun sz107 sl107 kd107 P107 I107 _ _ he107 _ _ => ?_)
    replace hsh : Shp z kd107 := by rw [he107]; exact hsh
    have hk108 := kd_keep hn104 he107 (Nat.le_of_ble_eq_true rfl) hk102
    refine ga_putpF K hK hsh 18 (ty := .array (.int)) 169 in_X0 tyX0 tyX0_ok nmX0 hk108 rfl rfl (Nat.le_of_ble_eq_true rfl) rfl (by decide) q426 rfl hname rfl (by decide +kernel) rfl rfl (Nat.le_of_ble_eq_true rfl) dX0_init_166 rfl (fun P109 _ => ?_)
    refine g_chk (fun hcv110 => ?_)
    refine g_cv (hcv110 cs) ?_
    exact ga_vret K hr hlk dX0_init_169 rfl
  · refine g_aloadn K 0 rfl rfl 77 dX0_init_76 rfl ?_
    refine gx_getp K hK hsh 7 (24, 6, 0) 80 in_X0 hk55 rfl (Nat.le_of_ble_eq_true rfl) rfl (by decide) (Or.inl q415) rfl dX0_init_77 rfl (fun b111 hb112 => ?_)
    refine g_iloadn K 1 rfl rfl 81 dX0_init_80 rfl ?_
    refine ga_new K hK hsh (ci := 1) (41, 0, 0) 84 in_X1 tyX1 tyX1_ok q194 q195 q152 rfl (fun _ => rfl) (by decide) (by show plainK 41; unfold plainK; omega) dX0_init_81 rfl (fun hn113 hsh => ?_)
    refine g_nmA (fun sz114 sl114 kd114 P114 I114 _ _ he114 _ _ => ?_)
    replace hsh : Shp z kd114 := by rw [he114]; exact hsh
    have hk115 := kd_keep hn113 he114 (Nat.le_of_ble_eq_true rfl) hk55
    have hk116 := kd_keep hn113 he114 (Nat.le_of_ble_eq_true rfl) hb112
    refine g_dup K rfl 85 dX0_init_84 rfl ?_
    have hp117 := (kd_new he114)
    refine gb_callI K hK hsh hlt 88 (ct_x1_init sz114 sl114 kd114 P114 I114 j50.2.1 hp117) (lw_meth q198) q152 q196 q197 rfl wdb_x1_init (by decide) rfl (Nat.le_of_ble_eq_true rfl) dX0_init_85 rfl (fun u119 sz118 sl118 kd118 P118 I118 _ => ?_)
    try dsimp only
    refine g_chk (fun hc => ?_)
    obtain ⟨hsh, hx120, hw121, hf122⟩ := hc
    have hk123 := hw121
    have hk124 := hx120.at hk116 (Nat.le_of_ble_eq_true rfl)
    refine gx_past K hK hsh 89 hk124 hf122 dX0_init_88 rfl (fun P125 => ?_)
    refine g_iinc K (j50.1 + (nI 1)) 1 [(0, .ref z), (1, .int (j50.1 + (nI 1)))] [1, 0] rfl (by rw [ic_1]) (by decide) rfl 92 dX0_init_89 rfl ?_
    refine g_goto K 70 dX0_init_92 (by decide) ?_
    exact gx_of (h52 ((j50.1 + (nI 1)), sz118, sl118, kd118, P125, I118))
/-- GingerRents.byFirst(I)I -/
noncomputable def x0_byFirst (z : Nat) (sz sl : Nat) (kd : Kd) (P : Ptr) (I : Mem) (x1 : Int32) : Option (Int32 × Sy) := moB sz sl <|
  (alA z kd sz (nI 8)).bind fun len2 =>
  nmA (sz + 1) (sl + len2) (upA kd sz (20, len2, 0)) (upA P sz (fun _ => none)) (upA I sz (fun _ => 0)) fun sz4 sl4 kd4 P4 I4 =>
  lp (fun again8 (j7 : Int32 × Int32 × Nat × Nat × Kd × Ptr × Mem) =>
  chk (Shp z j7.2.2.2.2.1 ∧ Ext kd4 j7.2.2.2.2.1) (
  if (j7.2.2.2.2.2.2 (z + 166) 1) ≤ j7.2.1 then
  some (j7.1, j7.2.2.1, j7.2.2.2.1, j7.2.2.2.2.1, j7.2.2.2.2.2.1, j7.2.2.2.2.2.2)
  else
  jn (fun (j13 : Int32 × Nat × Nat × Kd × Ptr × Mem) =>
  chk (Shp z j13.2.2.2.1 ∧ Ext j7.2.2.2.2.1 j13.2.2.2.1) (
  jn (fun (j19 : Int32 × Nat × Nat × Kd × Ptr × Mem) =>
  chk (Shp z j19.2.2.2.1 ∧ Ext j13.2.2.2.1 j19.2.2.2.1) (
  (rd j19.2.2.2.2.2 sz len2 j13.1).bind fun v25 =>
  (x2_first j19.2.2.2.2.2 (z + 166) 8 j7.2.1).bind fun r26 =>
  (wr j19.2.2.2.2.2 sz len2 j13.1 (v25 - r26)).bind fun I28 =>
  again8 (j19.1, (j7.2.1 + (nI 1)), j19.2.1, j19.2.2.1, j19.2.2.2.1, j19.2.2.2.2.1, I28))) (fun k20 =>
  if j13.1 = j7.1 then
  (wr j13.2.2.2.2.2 sz len2 j13.1 x1).bind fun I29 =>
  k20 ((j7.1 + (nI 1)), j13.2.1, j13.2.2.1, j13.2.2.2.1, j13.2.2.2.2.1, I29)
  else
  k20 (j7.1, j13.2.1, j13.2.2.1, j13.2.2.2.1, j13.2.2.2.2.1, j13.2.2.2.2.2)))) (fun k14 =>
  lp (fun again31 (j30 : Int32 × Nat × Nat × Kd × Ptr × Mem) =>
  chk (Shp z j30.2.2.2.1 ∧ Ext j7.2.2.2.2.1 j30.2.2.2.1) (
  if j7.1 ≤ j30.1 then
  k14 (j30.1, j30.2.1, j30.2.2.1, j30.2.2.2.1, j30.2.2.2.2.1, j30.2.2.2.2.2)
  else
  (rd j30.2.2.2.2.2 sz len2 j30.1).bind fun v36 =>
  (x2_first j30.2.2.2.2.2 (z + 166) 8 j7.2.1).bind fun r37 =>
  if r37 ≤ v36 then
  k14 (j30.1, j30.2.1, j30.2.2.1, j30.2.2.2.1, j30.2.2.2.2.1, j30.2.2.2.2.2)
  else
  again31 ((j30.1 + (nI 1)), j30.2.1, j30.2.2.1, j30.2.2.2.1, j30.2.2.2.2.1, j30.2.2.2.2.2))) fuel ((nI 0), j7.2.2.1, j7.2.2.2.1, j7.2.2.2.2.1, j7.2.2.2.2.2.1, j7.2.2.2.2.2.2)))) fuel ((nI 0), (nI 0), sz4, sl4, kd4, P4, I4)
theorem wdb_x0_byFirst : yX0_byFirst.cls = RX0 ∧ yX0_byFirst.cls ≠ "java/lang/invoke/MethodHandle" ∧ yX0_byFirst.cls ≠ "java/lang/invoke/VarHandle" ∧ (parseMethodDescriptor yX0_byFirst.desc).map (fun d => d.parameters.length) = some 1 := by decide
set_option maxRecDepth 100000 in
theorem ct_x0_byFirst {cs : Cs} {z : Nat} (sz sl : Nat) (kd : Kd) (P : Ptr) (I : Mem) (x1 : Int32) (ha : kd z = (0, 0, 0)) : CtB cs z yX0_byFirst cX0_byFirst 6 (some .int) (1) (21) [.ref z, .int x1] (sz, sl, kd, P, I) (fun r => some (.int r)) (x0_byFirst z sz sl kd P I x1) := by
  refine CtB.ofM RX0 (by decide) rfl (Nat.le_of_ble_eq_true rfl) ?_
  intro l D p e s m args below meth c hlt hsh K hr hlk hname hK
  refine g_sub (ls' := [(0, .ref z), (1, .int x1)]) [0, 1] rfl ?_
  refine g_bipush K (nI 8) bp_8 2 dX0_byFirst_0 rfl ?_
  refine ga_newi K hK hsh 4 dX0_byFirst_2 rfl q220 (fun len2 hl3 hn1 hsh => ?_)
  refine g_nmA (fun sz4 sl4 kd4 P4 I4 _ _ he4 _ _ => ?_)
  replace hsh : Shp z kd4 := by rw [he4]; exact hsh
  have hk5 := kd_keep hn1 he4 (Nat.le_of_ble_eq_true rfl) ha
  refine g_astoren K [(0, .ref z), (1, .int x1), (2, .ref sz)] [1, 2, 0] rfl (by decide) rfl 5 dX0_byFirst_4 rfl ?_
  refine g_iconst K (nI 0) ic_0 6 dX0_byFirst_5 rfl ?_
  refine g_istoren K [(0, .ref z), (1, .int x1), (2, .ref sz), (3, .int (nI 0))] [1, 2, 3, 0] rfl (by decide) rfl 7 dX0_byFirst_6 rfl ?_
  refine g_iconst K (nI 0) ic_0 8 dX0_byFirst_7 rfl ?_
  refine g_istore K [(0, .ref z), (1, .int x1), (2, .ref sz), (3, .int (nI 0)), (4, .int (nI 0))] [1, 2, 3, 4, 0] (by decide) rfl 10 dX0_byFirst_8 rfl ?_
  have hp6 := (kd_new he4)
  refine gx_of ?_
  refine g_lp (head := 10) (L := fun (j7 : Int32 × Int32 × Nat × Nat × Kd × Ptr × Mem) => [(0, .ref z), (1, .int x1), (2, .ref sz), (3, .int j7.1), (4, .int j7.2.1)]) (sf := fun j7 => []) (mf := fun j7 => (j7.2.2.1, j7.2.2.2.1, j7.2.2.2.2.1, j7.2.2.2.2.2.1, j7.2.2.2.2.2.2)) (fun again8 h9 j7 => ?_) fuel ((nI 0), (nI 0), sz4, sl4, kd4, P4, I4)
  try dsimp only
  refine gy_of ?_
  refine g_chk (fun hc => ?_)
  obtain ⟨hsh, hx10⟩ := hc
  have hk11 := hx10.at hk5 (Nat.le_of_ble_eq_true rfl)
  have hk12 := hx10.at hp6 (Nat.le_of_ble_eq_true rfl)
  refine g_iload K 4 rfl 12 dX0_byFirst_10 rfl ?_
  refine g_aloadn K 0 rfl rfl 13 dX0_byFirst_12 rfl ?_
  refine gx_get K hK hsh 4 (v := .ref (z + 2)) 16 in_X0 hk11 rfl (Nat.le_of_ble_eq_true rfl) rfl (by decide) (Or.inl q411) rfl dX0_byFirst_13 rfl ?_
  refine gx_get K hK hsh 3 (v := .ref (z + 166)) 19 in_X1 (sh_0_borough hsh hk11) rfl (Nat.le_of_ble_eq_true rfl) rfl (by decide) (Or.inr (nf_q304 hK.2)) rfl dX0_byFirst_16 rfl ?_
  refine gx_get K hK hsh 1 (v := .int (j7.2.2.2.2.2.2 (z + 166) 1)) 22 in_X2 (sh_1_doughs hsh (sh_0_borough hsh hk11)) rfl (Nat.le_of_ble_eq_true rfl) rfl (by decide) (Or.inr (nf_q213 hK.2)) rfl dX0_byFirst_19 rfl ?_
  refine g_icmp_ge K 25 98 dX0_byFirst_22 rfl (by decide) (fun _ => ?_) (fun _ => ?_)
  · refine g_iloadn K 3 rfl rfl 99 dX0_byFirst_98 rfl ?_
    exact ga_iret K hr hlk dX0_byFirst_99 rfl
  · refine g_iconst K (nI 0) ic_0 26 dX0_byFirst_25 rfl ?_
    refine g_istore K [(0, .ref z), (1, .int x1), (2, .ref sz), (3, .int j7.1), (4, .int j7.2.1), (5, .int (nI 0))] [1, 2, 3, 4, 5, 0] (by decide) rfl 28 dX0_byFirst_26 rfl ?_
    refine gx_of ?_
    refine g_jn (head := 59) (L := fun (j13 : Int32 × Nat × Nat × Kd × Ptr × Mem) => [(0, .ref z), (1, .int x1), (2, .ref sz), (3, .int j7.1), (4, .int j7.2.1), (5, .int j13.1)]) (sf := fun j13 => []) (mf := fun j13 => (j13.2.1, j13.2.2.1, j13.2.2.2.1, j13.2.2.2.2.1, j13.2.2.2.2.2)) (fun j13 => ?_) (fun k14 h15 => ?_)
    · try dsimp only
      refine gy_of ?_
      refine g_chk (fun hc => ?_)
      obtain ⟨hsh, hx16⟩ := hc
      have hk17 := hx16.at hk11 (Nat.le_of_ble_eq_true rfl)
      have hk18 := hx16.at hk12 (Nat.le_of_ble_eq_true rfl)
      refine g_iload K 5 rfl 61 dX0_byFirst_59 rfl ?_
      refine g_iloadn K 3 rfl rfl 62 dX0_byFirst_61 rfl ?_
      refine gx_of ?_
      refine g_jn (head := 73) (L := fun (j19 : Int32 × Nat × Nat × Kd × Ptr × Mem) => [(0, .ref z), (1, .int x1), (2, .ref sz), (3, .int j19.1), (4, .int j7.2.1), (5, .int j13.1)]) (sf := fun j19 => []) (mf := fun j19 => (j19.2.1, j19.2.2.1, j19.2.2.2.1, j19.2.2.2.2.1, j19.2.2.2.2.2)) (fun j19 => ?_) (fun k20 h21 => ?_)
      · try dsimp only
        refine gy_of ?_
        refine g_chk (fun hc => ?_)
        obtain ⟨hsh, hx22⟩ := hc
        have hk23 := hx22.at hk17 (Nat.le_of_ble_eq_true rfl)
        have hk24 := hx22.at hk18 (Nat.le_of_ble_eq_true rfl)
        refine g_aloadn K 2 rfl rfl 74 dX0_byFirst_73 rfl ?_
        refine g_iload K 5 rfl 76 dX0_byFirst_74 rfl ?_
        refine g_dup2 K rfl rfl 77 dX0_byFirst_76 rfl ?_
        refine gx_ald K hK hsh 78 hk24 dX0_byFirst_77 rfl (fun v25 => ?_)
        refine g_aloadn K 0 rfl rfl 79 dX0_byFirst_78 rfl ?_
        refine gx_get K hK hsh 4 (v := .ref (z + 2)) 82 in_X0 hk23 rfl (Nat.le_of_ble_eq_true rfl) rfl (by decide) (Or.inl q411) rfl dX0_byFirst_79 rfl ?_
        refine gx_get K hK hsh 3 (v := .ref (z + 166)) 85 in_X1 (sh_0_borough hsh hk23) rfl (Nat.le_of_ble_eq_true rfl) rfl (by decide) (Or.inr (nf_q304 hK.2)) rfl dX0_byFirst_82 rfl ?_
        refine g_iload K 4 rfl 87 dX0_byFirst_85 rfl ?_
        refine gx_call K hK hsh 90 (ctx_x2_first j19.2.2.2.2.1 j19.2.2.2.2.2 (z + 166) 8 j7.2.1 (sh_1_doughs hsh (sh_0_borough hsh hk23))) (lw_V q1330 q1331 q1332 q153 q1333) wd_x2_first (sh_1_doughs hsh (sh_0_borough hsh hk23)) rfl (Nat.le_of_ble_eq_true rfl) rfl (by decide) rfl (Nat.le_of_ble_eq_true rfl) dX0_byFirst_87 rfl (fun r26 hr27 => ?_)
        refine g_isub K 91 dX0_byFirst_90 rfl ?_
        refine gx_ast K hK hsh 92 hk24 dX0_byFirst_91 rfl (fun I28 => ?_)
        refine g_iinc K (j7.2.1 + (nI 1)) 4 [(0, .ref z), (1, .int x1), (2, .ref sz), (3, .int j19.1), (4, .int (j7.2.1 + (nI 1)))] [1, 2, 3, 4, 0] rfl (by rw [ic_1]) (by decide) rfl 95 dX0_byFirst_92 rfl ?_
        refine g_goto K 10 dX0_byFirst_95 (by decide) ?_
        exact gx_of (h9 (j19.1, (j7.2.1 + (nI 1)), j19.2.1, j19.2.2.1, j19.2.2.2.1, j19.2.2.2.2.1, I28))
      · refine gy_of ?_
        refine g_icmp_ne K 65 73 dX0_byFirst_62 rfl (by decide) (fun _ => ?_) (fun _ => ?_)
        · refine g_aloadn K 2 rfl rfl 66 dX0_byFirst_65 rfl ?_
          refine g_iload K 5 rfl 68 dX0_byFirst_66 rfl ?_
          refine g_iloadn K 1 rfl rfl 69 dX0_byFirst_68 rfl ?_
          refine gx_ast K hK hsh 70 hk18 dX0_byFirst_69 rfl (fun I29 => ?_)
          refine g_iinc K (j7.1 + (nI 1)) 3 [(0, .ref z), (1, .int x1), (2, .ref sz), (3, .int (j7.1 + (nI 1))), (4, .int j7.2.1), (5, .int j13.1)] [1, 2, 3, 0, 4, 5] rfl (by rw [ic_1]) (by decide) rfl 73 dX0_byFirst_70 rfl ?_
          exact gx_of (h21 ((j7.1 + (nI 1)), j13.2.1, j13.2.2.1, j13.2.2.2.1, j13.2.2.2.2.1, I29))
        · exact gx_of (h21 (j7.1, j13.2.1, j13.2.2.1, j13.2.2.2.1, j13.2.2.2.2.1, j13.2.2.2.2.2))
    · refine gy_of ?_
      refine gx_of ?_
      refine g_lp (head := 28) (L := fun (j30 : Int32 × Nat × Nat × Kd × Ptr × Mem) => [(0, .ref z), (1, .int x1), (2, .ref sz), (3, .int j7.1), (4, .int j7.2.1), (5, .int j30.1)]) (sf := fun j30 => []) (mf := fun j30 => (j30.2.1, j30.2.2.1, j30.2.2.2.1, j30.2.2.2.2.1, j30.2.2.2.2.2)) (fun again31 h32 j30 => ?_) fuel ((nI 0), j7.2.2.1, j7.2.2.2.1, j7.2.2.2.2.1, j7.2.2.2.2.2.1, j7.2.2.2.2.2.2)
      try dsimp only
      refine gy_of ?_
      refine g_chk (fun hc => ?_)
      obtain ⟨hsh, hx33⟩ := hc
      have hk34 := hx33.at hk11 (Nat.le_of_ble_eq_true rfl)
      have hk35 := hx33.at hk12 (Nat.le_of_ble_eq_true rfl)
      refine g_iload K 5 rfl 30 dX0_byFirst_28 rfl ?_
      refine g_iloadn K 3 rfl rfl 31 dX0_byFirst_30 rfl ?_
      refine g_icmp_ge K 34 59 dX0_byFirst_31 rfl (by decide) (fun _ => ?_) (fun _ => ?_)
      · exact gx_of (h15 (j30.1, j30.2.1, j30.2.2.1, j30.2.2.2.1, j30.2.2.2.2.1, j30.2.2.2.2.2))
      · refine g_aloadn K 2 rfl rfl 35 dX0_byFirst_34 rfl ?_
        refine g_iload K 5 rfl 37 dX0_byFirst_35 rfl ?_
        refine gx_ald K hK hsh 38 hk35 dX0_byFirst_37 rfl (fun v36 => ?_)
        refine g_aloadn K 0 rfl rfl 39 dX0_byFirst_38 rfl ?_
        refine gx_get K hK hsh 4 (v := .ref (z + 2)) 42 in_X0 hk34 rfl (Nat.le_of_ble_eq_true rfl) rfl (by decide) (Or.inl q411) rfl dX0_byFirst_39 rfl ?_
        refine gx_get K hK hsh 3 (v := .ref (z + 166)) 45 in_X1 (sh_0_borough hsh hk34) rfl (Nat.le_of_ble_eq_true rfl) rfl (by decide) (Or.inr (nf_q304 hK.2)) rfl dX0_byFirst_42 rfl ?_
        refine g_iload K 4 rfl 47 dX0_byFirst_45 rfl ?_
        refine gx_call K hK hsh 50 (ctx_x2_first j30.2.2.2.2.1 j30.2.2.2.2.2 (z + 166) 8 j7.2.1 (sh_1_doughs hsh (sh_0_borough hsh hk34))) (lw_V q1330 q1331 q1332 q153 q1333) wd_x2_first (sh_1_doughs hsh (sh_0_borough hsh hk34)) rfl (Nat.le_of_ble_eq_true rfl) rfl (by decide) rfl (Nat.le_of_ble_eq_true rfl) dX0_byFirst_47 rfl (fun r37 hr38 => ?_)
        refine g_icmp_ge K 53 59 dX0_byFirst_50 rfl (by decide) (fun _ => ?_) (fun _ => ?_)
        · exact gx_of (h15 (j30.1, j30.2.1, j30.2.2.1, j30.2.2.2.1, j30.2.2.2.2.1, j30.2.2.2.2.2))
        · refine g_iinc K (j30.1 + (nI 1)) 5 [(0, .ref z), (1, .int x1), (2, .ref sz), (3, .int j7.1), (4, .int j7.2.1), (5, .int (j30.1 + (nI 1)))] [1, 2, 3, 4, 5, 0] rfl (by rw [ic_1]) (by decide) rfl 56 dX0_byFirst_53 rfl ?_
          refine g_goto K 28 dX0_byFirst_56 (by decide) ?_
          exact gx_of (h32 ((j30.1 + (nI 1)), j30.2.1, j30.2.2.1, j30.2.2.2.1, j30.2.2.2.2.1, j30.2.2.2.2.2))
/-- GingerRents.pans(II)I -/
noncomputable def x0_pans (z : Nat) (sz sl : Nat) (kd : Kd) (P : Ptr) (I : Mem) (x1 : Int32) (x2 : Int32) : Option (Int32 × Sy) := moB sz sl <|
  (x0_isIn x1 (nI 1) (nI 60)).bind fun r1 =>
  if (bI r1) = 0 then
  some ((-1 : Int32), sz, sl, kd, P, I)
  else
  (x0_isIn x2 (nI 0) (nI 1)).bind fun r2 =>
  if (bI r2) = 0 then
  some ((-1 : Int32), sz, sl, kd, P, I)
  else
  lp (fun again4 (j3 : Int32 × Nat × Nat × Kd × Ptr × Mem) =>
  chk (Shp z j3.2.2.2.1 ∧ Ext kd j3.2.2.2.1) (
  if (j3.2.2.2.2.2 (z + 166) 1) ≤ j3.1 then
  if x2 = (nI 1) then
  cal (x0_byFirst z j3.2.1 j3.2.2.1 j3.2.2.2.1 j3.2.2.2.2.1 j3.2.2.2.2.2 x1) fun v40 sz39 sl39 kd39 P39 I39 =>
  chk (Shp z kd39 ∧ Ext j3.2.2.2.1 kd39) (
  some (v40, sz39, sl39, kd39, P39, I39))
  else
  nm (((nI 1) <<< ((j3.2.2.2.2.2 (z + 166) 1) &&& 31)) - (nI 1)) fun v8 =>
  lp (fun again10 (j9 : Int32 × Nat × Nat × Kd × Ptr × Mem) =>
  chk (Shp z j9.2.2.2.1 ∧ Ext j3.2.2.2.1 j9.2.2.2.1) (
  if v8 < j9.1 then
  (rd j9.2.2.2.2.2 (z + 2436) 256 v8).bind fun v14 =>
  some (v14, j9.2.1, j9.2.2.1, j9.2.2.2.1, j9.2.2.2.2.1, j9.2.2.2.2.2)
  else
  jn (fun (j16 : Int32 × Nat × Nat × Kd × Ptr × Mem) =>
  chk (Shp z j16.2.2.2.1 ∧ Ext j9.2.2.2.1 j16.2.2.2.1) (
  (wr j16.2.2.2.2.2 (z + 2436) 256 j9.1 j16.1).bind fun I22 =>
  lp (fun again24 (j23 : Int32 × Nat × Nat × Kd × Ptr × Mem) =>
  chk (Shp z j23.2.2.2.1 ∧ Ext j16.2.2.2.1 j23.2.2.2.1) (
  if j23.1 ≤ 0 then
  again10 ((j9.1 + (nI 1)), j23.2.1, j23.2.2.1, j23.2.2.2.1, j23.2.2.2.2.1, j23.2.2.2.2.2)
  else
  (x0_doughOf j23.2.2.2.2.2 z j23.1).bind fun r28 =>
  jn (fun (j30 : Nat × Nat × Kd × Ptr × Mem) =>
  chk (Shp z j30.2.2.1 ∧ Ext j23.2.2.2.1 j30.2.2.1) (
  nm ((j23.1 - (nI 1)) &&& j9.1) fun v35 =>
  again24 (v35, j30.1, j30.2.1, j30.2.2.1, j30.2.2.2.1, j30.2.2.2.2))) (fun k31 =>
  if x1 < r28 then
  k31 (j23.2.1, j23.2.2.1, j23.2.2.2.1, j23.2.2.2.2.1, j23.2.2.2.2.2)
  else
  (rd j23.2.2.2.2.2 (z + 2436) 256 j9.1).bind fun v36 =>
  (rd j23.2.2.2.2.2 (z + 2436) 256 (j9.1 &&& (j23.1 ^^^ (-1 : Int32)))).bind fun v37 =>
  (wr j23.2.2.2.2.2 (z + 2436) 256 j9.1 (imin v36 ((nI 1) + v37))).bind fun I38 =>
  k31 (j23.2.1, j23.2.2.1, j23.2.2.2.1, j23.2.2.2.2.1, I38)))) fuel (j9.1, j16.2.1, j16.2.2.1, j16.2.2.2.1, j16.2.2.2.2.1, I22))) (fun k17 =>
  if j9.1 = 0 then
  k17 ((nI 0), j9.2.1, j9.2.2.1, j9.2.2.2.1, j9.2.2.2.2.1, j9.2.2.2.2.2)
  else
  k17 ((1000000 : Int32), j9.2.1, j9.2.2.1, j9.2.2.2.1, j9.2.2.2.2.1, j9.2.2.2.2.2)))) fuel ((nI 0), j3.2.1, j3.2.2.1, j3.2.2.2.1, j3.2.2.2.2.1, j3.2.2.2.2.2)
  else
  (x2_first j3.2.2.2.2.2 (z + 166) 8 j3.1).bind fun r43 =>
  if r43 ≤ x1 then
  again4 ((j3.1 + (nI 1)), j3.2.1, j3.2.2.1, j3.2.2.2.1, j3.2.2.2.2.1, j3.2.2.2.2.2)
  else
  some ((-1 : Int32), j3.2.1, j3.2.2.1, j3.2.2.2.1, j3.2.2.2.2.1, j3.2.2.2.2.2))) fuel ((nI 0), sz, sl, kd, P, I)
theorem wdb_x0_pans : yX0_pans.cls = RX0 ∧ yX0_pans.cls ≠ "java/lang/invoke/MethodHandle" ∧ yX0_pans.cls ≠ "java/lang/invoke/VarHandle" ∧ (parseMethodDescriptor yX0_pans.desc).map (fun d => d.parameters.length) = some 2 := by decide
set_option maxRecDepth 100000 in
theorem ct_x0_pans {cs : Cs} {z : Nat} (sz sl : Nat) (kd : Kd) (P : Ptr) (I : Mem) (x1 : Int32) (x2 : Int32) (ha : kd z = (0, 0, 0)) : CtB cs z yX0_pans cX0_pans 6 (some .int) (2) (46) [.ref z, .int x1, .int x2] (sz, sl, kd, P, I) (fun r => some (.int r)) (x0_pans z sz sl kd P I x1 x2) := by
  refine CtB.ofM RX0 (by decide) rfl (Nat.le_of_ble_eq_true rfl) ?_
  intro l D p e s m args below meth c hlt hsh K hr hlk hname hK
  refine g_sub (ls' := [(0, .ref z), (1, .int x1), (2, .int x2)]) [0, 1, 2] rfl ?_
  refine g_iloadn K 1 rfl rfl 1 dX0_pans_0 rfl ?_
  refine g_iconst K (nI 1) ic_1 2 dX0_pans_1 rfl ?_
  refine g_bipush K (nI 60) bp_60 4 dX0_pans_2 rfl ?_
  refine g_callS K 7 (cts_x0_isIn x1 (nI 1) (nI 60)) (lw_S q478 q479 q151 q480) wds_x0_isIn (by decide) rfl (Nat.le_of_ble_eq_true rfl) dX0_pans_4 rfl (fun r1 _ => ?_)
  refine g_if_eq K 10 19 dX0_pans_7 rfl (by decide) (fun _ => ?_) (fun _ => ?_)
  · refine g_iconst K (-1 : Int32) ic_m1 20 dX0_pans_19 rfl ?_
    exact ga_iret K hr hlk dX0_pans_20 rfl
  · refine g_iloadn K 2 rfl rfl 11 dX0_pans_10 rfl ?_
    refine g_iconst K (nI 0) ic_0 12 dX0_pans_11 rfl ?_
    refine g_iconst K (nI 1) ic_1 13 dX0_pans_12 rfl ?_
    refine g_callS K 16 (cts_x0_isIn x2 (nI 0) (nI 1)) (lw_S q478 q479 q151 q480) wds_x0_isIn (by decide) rfl (Nat.le_of_ble_eq_true rfl) dX0_pans_13 rfl (fun r2 _ => ?_)
    refine g_if_ne K 19 21 dX0_pans_16 rfl (by decide) (fun _ => ?_) (fun _ => ?_)
    · refine g_iconst K (-1 : Int32) ic_m1 20 dX0_pans_19 rfl ?_
      exact ga_iret K hr hlk dX0_pans_20 rfl
    · refine g_iconst K (nI 0) ic_0 22 dX0_pans_21 rfl ?_
      refine g_istoren K [(0, .ref z), (1, .int x1), (2, .int x2), (3, .int (nI 0))] [1, 2, 3, 0] rfl (by decide) rfl 23 dX0_pans_22 rfl ?_
      refine gx_of ?_
      refine g_lp (head := 23) (L := fun (j3 : Int32 × Nat × Nat × Kd × Ptr × Mem) => [(0, .ref z), (1, .int x1), (2, .int x2), (3, .int j3.1)]) (sf := fun j3 => []) (mf := fun j3 => (j3.2.1, j3.2.2.1, j3.2.2.2.1, j3.2.2.2.2.1, j3.2.2.2.2.2)) (fun again4 h5 j3 => ?_) fuel ((nI 0), sz, sl, kd, P, I)
      try dsimp only
      refine gy_of ?_
      refine g_chk (fun hc => ?_)
      obtain ⟨hsh, hx6⟩ := hc
      have hk7 := hx6.at ha (Nat.le_of_ble_eq_true rfl)
      refine g_iloadn K 3 rfl rfl 24 dX0_pans_23 rfl ?_
      refine g_aloadn K 0 rfl rfl 25 dX0_pans_24 rfl ?_
      refine gx_get K hK hsh 4 (v := .ref (z + 2)) 28 in_X0 hk7 rfl (Nat.le_of_ble_eq_true rfl) rfl (by decide) (Or.inl q411) rfl dX0_pans_25 rfl ?_
      refine gx_get K hK hsh 3 (v := .ref (z + 166)) 31 in_X1 (sh_0_borough hsh hk7) rfl (Nat.le_of_ble_eq_true rfl) rfl (by decide) (Or.inr (nf_q304 hK.2)) rfl dX0_pans_28 rfl ?_
      refine gx_get K hK hsh 1 (v := .int (j3.2.2.2.2.2 (z + 166) 1)) 34 in_X2 (sh_1_doughs hsh (sh_0_borough hsh hk7)) rfl (Nat.le_of_ble_eq_true rfl) rfl (by decide) (Or.inr (nf_q213 hK.2)) rfl dX0_pans_31 rfl ?_
      refine g_icmp_ge K 37 60 dX0_pans_34 rfl (by decide) (fun _ => ?_) (fun _ => ?_)
      · refine g_iloadn K 2 rfl rfl 61 dX0_pans_60 rfl ?_
        refine g_iconst K (nI 1) ic_1 62 dX0_pans_61 rfl ?_
        refine g_icmp_ne K 65 71 dX0_pans_62 rfl (by decide) (fun _ => ?_) (fun _ => ?_)
        · refine g_aloadn K 0 rfl rfl 66 dX0_pans_65 rfl ?_
          refine g_iloadn K 1 rfl rfl 67 dX0_pans_66 rfl ?_
          refine gb_callV K hK hsh hlt 70 (ct_x0_byFirst j3.2.1 j3.2.2.1 j3.2.2.2.1 j3.2.2.2.2.1 j3.2.2.2.2.2 x1 hk7) (lw_V q1342 q1344 qs45 q151 q1345) wdb_x0_byFirst hk7 rfl (Nat.le_of_ble_eq_true rfl) rfl (by decide) rfl (Nat.le_of_ble_eq_true rfl) dX0_pans_67 rfl (fun v40 sz39 sl39 kd39 P39 I39 _ => ?_)
          try dsimp only
          refine g_chk (fun hc => ?_)
          obtain ⟨hsh, hx41⟩ := hc
          have hk42 := hx41.at hk7 (Nat.le_of_ble_eq_true rfl)
          exact ga_iret K hr hlk dX0_pans_70 rfl
        · refine g_iconst K (nI 1) ic_1 72 dX0_pans_71 rfl ?_
          refine g_aloadn K 0 rfl rfl 73 dX0_pans_72 rfl ?_
          refine gx_get K hK hsh 4 (v := .ref (z + 2)) 76 in_X0 hk7 rfl (Nat.le_of_ble_eq_true rfl) rfl (by decide) (Or.inl q411) rfl dX0_pans_73 rfl ?_
          refine gx_get K hK hsh 3 (v := .ref (z + 166)) 79 in_X1 (sh_0_borough hsh hk7) rfl (Nat.le_of_ble_eq_true rfl) rfl (by decide) (Or.inr (nf_q304 hK.2)) rfl dX0_pans_76 rfl ?_
          refine gx_get K hK hsh 1 (v := .int (j3.2.2.2.2.2 (z + 166) 1)) 82 in_X2 (sh_1_doughs hsh (sh_0_borough hsh hk7)) rfl (Nat.le_of_ble_eq_true rfl) rfl (by decide) (Or.inr (nf_q213 hK.2)) rfl dX0_pans_79 rfl ?_
          refine g_ishl K 83 dX0_pans_82 rfl ?_
          refine g_iconst K (nI 1) ic_1 84 dX0_pans_83 rfl ?_
          refine g_isub K 85 dX0_pans_84 rfl ?_
          refine g_nm (fun v8 _ => ?_)
          refine g_istoren K [(0, .ref z), (1, .int x1), (3, .int v8)] [1, 2, 0] rfl (by decide) rfl 86 dX0_pans_85 rfl ?_
          refine g_iconst K (nI 0) ic_0 87 dX0_pans_86 rfl ?_
          refine g_istore K [(0, .ref z), (1, .int x1), (3, .int v8), (4, .int (nI 0))] [1, 2, 3, 0] (by decide) rfl 89 dX0_pans_87 rfl ?_
          refine gx_of ?_
          refine g_lp (head := 89) (L := fun (j9 : Int32 × Nat × Nat × Kd × Ptr × Mem) => [(0, .ref z), (1, .int x1), (3, .int v8), (4, .int j9.1)]) (sf := fun j9 => []) (mf := fun j9 => (j9.2.1, j9.2.2.1, j9.2.2.2.1, j9.2.2.2.2.1, j9.2.2.2.2.2)) (fun again10 h11 j9 => ?_) fuel ((nI 0), j3.2.1, j3.2.2.1, j3.2.2.2.1, j3.2.2.2.2.1, j3.2.2.2.2.2)
          try dsimp only
          refine gy_of ?_
          refine g_chk (fun hc => ?_)
          obtain ⟨hsh, hx12⟩ := hc
          have hk13 := hx12.at hk7 (Nat.le_of_ble_eq_true rfl)
          refine g_iload K 3 rfl 91 dX0_pans_89 rfl ?_
          refine g_iloadn K 2 rfl rfl 92 dX0_pans_91 rfl ?_
          refine g_icmp_gt K 95 182 dX0_pans_92 rfl (by decide) (fun _ => ?_) (fun _ => ?_)
          · refine g_aloadn K 0 rfl rfl 183 dX0_pans_182 rfl ?_
            refine gx_get K hK hsh 12 (v := .ref (z + 2436)) 186 in_X0 hk13 rfl (Nat.le_of_ble_eq_true rfl) rfl (by decide) (Or.inl q420) rfl dX0_pans_183 rfl ?_
            refine g_iloadn K 2 rfl rfl 187 dX0_pans_186 rfl ?_
            refine gx_ald K hK hsh 188 (sh_0_pansFor hsh hk13) dX0_pans_187 rfl (fun v14 => ?_)
            exact ga_iret K hr hlk dX0_pans_188 rfl
          · refine g_aloadn K 0 rfl rfl 96 dX0_pans_95 rfl ?_
            refine gx_get K hK hsh 12 (v := .ref (z + 2436)) 99 in_X0 hk13 rfl (Nat.le_of_ble_eq_true rfl) rfl (by decide) (Or.inl q420) rfl dX0_pans_96 rfl ?_
            refine g_iload K 3 rfl 101 dX0_pans_99 rfl ?_
            refine g_iload K 3 rfl 103 dX0_pans_101 rfl ?_
            have hp15 := (sh_0_pansFor hsh hk13)
            refine gx_of ?_
            refine g_jn (head := 113) (L := fun (j16 : Int32 × Nat × Nat × Kd × Ptr × Mem) => [(0, .ref z), (1, .int x1), (3, .int v8), (4, .int j9.1)]) (sf := fun j16 => [.int j16.1, .int j9.1, .ref (z + 2436)]) (mf := fun j16 => (j16.2.1, j16.2.2.1, j16.2.2.2.1, j16.2.2.2.2.1, j16.2.2.2.2.2)) (fun j16 => ?_) (fun k17 h18 => ?_)
            · try dsimp only
              refine gy_of ?_
              refine g_chk (fun hc => ?_)
              obtain ⟨hsh, hx19⟩ := hc
              have hk20 := hx19.at hk13 (Nat.le_of_ble_eq_true rfl)
              have hk21 := hx19.at hp15 (Nat.le_of_ble_eq_true rfl)
              refine gx_ast K hK hsh 114 hk21 dX0_pans_113 rfl (fun I22 => ?_)
              refine g_iload K 3 rfl 116 dX0_pans_114 rfl ?_
              refine g_istore K [(0, .ref z), (1, .int x1), (3, .int v8), (4, .int j9.1), (5, .int j9.1)] [1, 2, 3, 4, 0] (by decide) rfl 118 dX0_pans_116 rfl ?_
              refine gx_of ?_
              refine g_lp (head := 118) (L := fun (j23 : Int32 × Nat × Nat × Kd × Ptr × Mem) => [(0, .ref z), (1, .int x1), (3, .int v8), (4, .int j9.1), (5, .int j23.1)]) (sf := fun j23 => []) (mf := fun j23 => (j23.2.1, j23.2.2.1, j23.2.2.2.1, j23.2.2.2.2.1, j23.2.2.2.2.2)) (fun again24 h25 j23 => ?_) fuel (j9.1, j16.2.1, j16.2.2.1, j16.2.2.2.1, j16.2.2.2.2.1, I22)
              try dsimp only
              refine gy_of ?_
              refine g_chk (fun hc => ?_)
              obtain ⟨hsh, hx26⟩ := hc
              have hk27 := hx26.at hk20 (Nat.le_of_ble_eq_true rfl)
              refine g_iload K 4 rfl 120 dX0_pans_118 rfl ?_
              refine g_if_le K 123 176 dX0_pans_120 rfl (by decide) (fun _ => ?_) (fun _ => ?_)
              · refine g_iinc K (j9.1 + (nI 1)) 3 [(0, .ref z), (1, .int x1), (3, .int v8), (4, .int (j9.1 + (nI 1)))] [1, 2, 3, 0] rfl (by rw [ic_1]) (by decide) rfl 179 dX0_pans_176 rfl ?_
                refine g_goto K 89 dX0_pans_179 (by decide) ?_
                exact gx_of (h11 ((j9.1 + (nI 1)), j23.2.1, j23.2.2.1, j23.2.2.2.1, j23.2.2.2.2.1, j23.2.2.2.2.2))
              · refine g_aloadn K 0 rfl rfl 124 dX0_pans_123 rfl ?_
                refine g_iload K 4 rfl 126 dX0_pans_124 rfl ?_
                refine gx_call K hK hsh 129 (ctx_x0_doughOf j23.2.2.2.2.1 j23.2.2.2.2.2 j23.1 hk27) (lw_V q1346 q1348 qs46 q151 q1349) wd_x0_doughOf hk27 rfl (Nat.le_of_ble_eq_true rfl) rfl (by decide) rfl (Nat.le_of_ble_eq_true rfl) dX0_pans_126 rfl (fun r28 hr29 => ?_)
                refine g_iloadn K 1 rfl rfl 130 dX0_pans_129 rfl ?_
                refine gx_of ?_
                refine g_jn (head := 164) (L := fun (j30 : Nat × Nat × Kd × Ptr × Mem) => [(0, .ref z), (1, .int x1), (3, .int v8), (4, .int j9.1), (5, .int j23.1)]) (sf := fun j30 => []) (mf := fun j30 => (j30.1, j30.2.1, j30.2.2.1, j30.2.2.2.1, j30.2.2.2.2)) (fun j30 => ?_) (fun k31 h32 => ?_)
                · try dsimp only
                  refine gy_of ?_
                  refine g_chk (fun hc => ?_)
                  obtain ⟨hsh, hx33⟩ := hc
                  have hk34 := hx33.at hk27 (Nat.le_of_ble_eq_true rfl)
                  refine g_iload K 4 rfl 166 dX0_pans_164 rfl ?_
                  refine g_iconst K (nI 1) ic_1 167 dX0_pans_166 rfl ?_
                  refine g_isub K 168 dX0_pans_167 rfl ?_
                  refine g_iload K 3 rfl 170 dX0_pans_168 rfl ?_
                  refine g_iand K 171 dX0_pans_170 rfl ?_
                  refine g_nm (fun v35 _ => ?_)
                  refine g_istore K [(0, .ref z), (1, .int x1), (3, .int v8), (4, .int j9.1), (5, .int v35)] [1, 2, 3, 4, 0] (by decide) rfl 173 dX0_pans_171 rfl ?_
                  refine g_goto K 118 dX0_pans_173 (by decide) ?_
                  exact gx_of (h25 (v35, j30.1, j30.2.1, j30.2.2.1, j30.2.2.2.1, j30.2.2.2.2))
                · refine gy_of ?_
                  refine g_icmp_gt K 133 164 dX0_pans_130 rfl (by decide) (fun _ => ?_) (fun _ => ?_)
                  · exact gx_of (h32 (j23.2.1, j23.2.2.1, j23.2.2.2.1, j23.2.2.2.2.1, j23.2.2.2.2.2))
                  · refine g_aloadn K 0 rfl rfl 134 dX0_pans_133 rfl ?_
                    refine gx_get K hK hsh 12 (v := .ref (z + 2436)) 137 in_X0 hk27 rfl (Nat.le_of_ble_eq_true rfl) rfl (by decide) (Or.inl q420) rfl dX0_pans_134 rfl ?_
                    refine g_iload K 3 rfl 139 dX0_pans_137 rfl ?_
                    refine g_aloadn K 0 rfl rfl 140 dX0_pans_139 rfl ?_
                    refine gx_get K hK hsh 12 (v := .ref (z + 2436)) 143 in_X0 hk27 rfl (Nat.le_of_ble_eq_true rfl) rfl (by decide) (Or.inl q420) rfl dX0_pans_140 rfl ?_
                    refine g_iload K 3 rfl 145 dX0_pans_143 rfl ?_
                    refine gx_ald K hK hsh 146 (sh_0_pansFor hsh hk27) dX0_pans_145 rfl (fun v36 => ?_)
                    refine g_iconst K (nI 1) ic_1 147 dX0_pans_146 rfl ?_
                    refine g_aloadn K 0 rfl rfl 148 dX0_pans_147 rfl ?_
                    refine gx_get K hK hsh 12 (v := .ref (z + 2436)) 151 in_X0 hk27 rfl (Nat.le_of_ble_eq_true rfl) rfl (by decide) (Or.inl q420) rfl dX0_pans_148 rfl ?_
                    refine g_iload K 3 rfl 153 dX0_pans_151 rfl ?_
                    refine g_iload K 4 rfl 155 dX0_pans_153 rfl ?_
                    refine g_iconst K (-1 : Int32) ic_m1 156 dX0_pans_155 rfl ?_
                    refine g_ixor K 157 dX0_pans_156 rfl ?_
                    refine g_iand K 158 dX0_pans_157 rfl ?_
                    refine gx_ald K hK hsh 159 (sh_0_pansFor hsh hk27) dX0_pans_158 rfl (fun v37 => ?_)
                    refine g_iadd K 160 dX0_pans_159 rfl ?_
                    refine g_mmin K 163 q1219 q878 q159 q879 (by decide) (Nat.le_of_ble_eq_true rfl) dX0_pans_160 rfl ?_
                    refine gx_ast K hK hsh 164 (sh_0_pansFor hsh hk27) dX0_pans_163 rfl (fun I38 => ?_)
                    exact gx_of (h32 (j23.2.1, j23.2.2.1, j23.2.2.2.1, j23.2.2.2.2.1, I38))
            · refine gy_of ?_
              refine g_if_ne K 106 110 dX0_pans_103 rfl (by decide) (fun _ => ?_) (fun _ => ?_)
              · refine g_iconst K (nI 0) ic_0 107 dX0_pans_106 rfl ?_
                refine g_goto K 113 dX0_pans_107 (by decide) ?_
                exact gx_of (h18 ((nI 0), j9.2.1, j9.2.2.1, j9.2.2.2.1, j9.2.2.2.2.1, j9.2.2.2.2.2))
              · refine g_ldcw K q1292 113 dX0_pans_110 rfl ?_
                exact gx_of (h18 ((1000000 : Int32), j9.2.1, j9.2.2.1, j9.2.2.2.1, j9.2.2.2.2.1, j9.2.2.2.2.2))
      · refine g_aloadn K 0 rfl rfl 38 dX0_pans_37 rfl ?_
        refine gx_get K hK hsh 4 (v := .ref (z + 2)) 41 in_X0 hk7 rfl (Nat.le_of_ble_eq_true rfl) rfl (by decide) (Or.inl q411) rfl dX0_pans_38 rfl ?_
        refine gx_get K hK hsh 3 (v := .ref (z + 166)) 44 in_X1 (sh_0_borough hsh hk7) rfl (Nat.le_of_ble_eq_true rfl) rfl (by decide) (Or.inr (nf_q304 hK.2)) rfl dX0_pans_41 rfl ?_
        refine g_iloadn K 3 rfl rfl 45 dX0_pans_44 rfl ?_
        refine gx_call K hK hsh 48 (ctx_x2_first j3.2.2.2.2.1 j3.2.2.2.2.2 (z + 166) 8 j3.1 (sh_1_doughs hsh (sh_0_borough hsh hk7))) (lw_V q1330 q1331 q1332 q153 q1333) wd_x2_first (sh_1_doughs hsh (sh_0_borough hsh hk7)) rfl (Nat.le_of_ble_eq_true rfl) rfl (by decide) rfl (Nat.le_of_ble_eq_true rfl) dX0_pans_45 rfl (fun r43 hr44 => ?_)
        refine g_iloadn K 1 rfl rfl 49 dX0_pans_48 rfl ?_
        refine g_icmp_le K 52 54 dX0_pans_49 rfl (by decide) (fun _ => ?_) (fun _ => ?_)
        · refine g_iinc K (j3.1 + (nI 1)) 3 [(0, .ref z), (1, .int x1), (2, .int x2), (3, .int (j3.1 + (nI 1)))] [1, 2, 3, 0] rfl (by rw [ic_1]) (by decide) rfl 57 dX0_pans_54 rfl ?_
          refine g_goto K 23 dX0_pans_57 (by decide) ?_
          exact gx_of (h5 ((j3.1 + (nI 1)), j3.2.1, j3.2.2.1, j3.2.2.2.1, j3.2.2.2.2.1, j3.2.2.2.2.2))
        · refine g_iconst K (-1 : Int32) ic_m1 53 dX0_pans_52 rfl ?_
          exact ga_iret K hr hlk dX0_pans_53 rfl
