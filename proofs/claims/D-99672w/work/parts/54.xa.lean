theorem bp_27 : (Int8.ofInt (27)).toInt32 = (nI 27) := by decide
theorem bp_28 : (Int8.ofInt (28)).toInt32 = (nI 28) := by decide
theorem bp_29 : (Int8.ofInt (29)).toInt32 = (nI 29) := by decide
theorem bp_31 : (Int8.ofInt (31)).toInt32 = (nI 31) := by decide
theorem bp_34 : (Int8.ofInt (34)).toInt32 = (nI 34) := by decide
theorem bp_35 : (Int8.ofInt (35)).toInt32 = (nI 35) := by decide
theorem bp_36 : (Int8.ofInt (36)).toInt32 = (nI 36) := by decide
theorem bp_37 : (Int8.ofInt (37)).toInt32 = (nI 37) := by decide
theorem bp_38 : (Int8.ofInt (38)).toInt32 = (nI 38) := by decide
theorem bp_39 : (Int8.ofInt (39)).toInt32 = (nI 39) := by decide
theorem bp_44 : (Int8.ofInt (44)).toInt32 = (nI 44) := by decide
theorem bp_46 : (Int8.ofInt (46)).toInt32 = (nI 46) := by decide
theorem bp_49 : (Int8.ofInt (49)).toInt32 = (nI 49) := by decide
theorem bp_51 : (Int8.ofInt (51)).toInt32 = (nI 51) := by decide
theorem bp_52 : (Int8.ofInt (52)).toInt32 = (nI 52) := by decide
theorem bp_53 : (Int8.ofInt (53)).toInt32 = (nI 53) := by decide
theorem bp_54 : (Int8.ofInt (54)).toInt32 = (nI 54) := by decide
theorem bp_56 : (Int8.ofInt (56)).toInt32 = (nI 56) := by decide
theorem bp_58 : (Int8.ofInt (58)).toInt32 = (nI 58) := by decide
theorem bp_64 : (Int8.ofInt (64)).toInt32 = (nI 64) := by decide
theorem bp_66 : (Int8.ofInt (66)).toInt32 = (nI 66) := by decide
theorem bp_68 : (Int8.ofInt (68)).toInt32 = (nI 68) := by decide
theorem bp_69 : (Int8.ofInt (69)).toInt32 = (nI 69) := by decide
theorem bp_70 : (Int8.ofInt (70)).toInt32 = (nI 70) := by decide
theorem bp_71 : (Int8.ofInt (71)).toInt32 = (nI 71) := by decide
theorem bp_72 : (Int8.ofInt (72)).toInt32 = (nI 72) := by decide
theorem bp_73 : (Int8.ofInt (73)).toInt32 = (nI 73) := by decide
theorem bp_74 : (Int8.ofInt (74)).toInt32 = (nI 74) := by decide
theorem bp_75 : (Int8.ofInt (75)).toInt32 = (nI 75) := by decide
theorem bp_76 : (Int8.ofInt (76)).toInt32 = (nI 76) := by decide
theorem bp_77 : (Int8.ofInt (77)).toInt32 = (nI 77) := by decide
theorem bp_78 : (Int8.ofInt (78)).toInt32 = (nI 78) := by decide
theorem bp_81 : (Int8.ofInt (81)).toInt32 = (nI 81) := by decide
theorem bp_82 : (Int8.ofInt (82)).toInt32 = (nI 82) := by decide
theorem bp_83 : (Int8.ofInt (83)).toInt32 = (nI 83) := by decide
theorem bp_84 : (Int8.ofInt (84)).toInt32 = (nI 84) := by decide
theorem bp_85 : (Int8.ofInt (85)).toInt32 = (nI 85) := by decide
theorem bp_86 : (Int8.ofInt (86)).toInt32 = (nI 86) := by decide
theorem bp_87 : (Int8.ofInt (87)).toInt32 = (nI 87) := by decide
theorem bp_88 : (Int8.ofInt (88)).toInt32 = (nI 88) := by decide
theorem bp_89 : (Int8.ofInt (89)).toInt32 = (nI 89) := by decide
theorem bp_92 : (Int8.ofInt (92)).toInt32 = (nI 92) := by decide
theorem bp_93 : (Int8.ofInt (93)).toInt32 = (nI 93) := by decide
theorem bp_94 : (Int8.ofInt (94)).toInt32 = (nI 94) := by decide
theorem bp_95 : (Int8.ofInt (95)).toInt32 = (nI 95) := by decide
theorem bp_96 : (Int8.ofInt (96)).toInt32 = (nI 96) := by decide
theorem bp_98 : (Int8.ofInt (98)).toInt32 = (nI 98) := by decide
theorem bp_101 : (Int8.ofInt (101)).toInt32 = (nI 101) := by decide
theorem bp_102 : (Int8.ofInt (102)).toInt32 = (nI 102) := by decide
theorem bp_104 : (Int8.ofInt (104)).toInt32 = (nI 104) := by decide
theorem bp_105 : (Int8.ofInt (105)).toInt32 = (nI 105) := by decide
theorem bp_106 : (Int8.ofInt (106)).toInt32 = (nI 106) := by decide
theorem bp_107 : (Int8.ofInt (107)).toInt32 = (nI 107) := by decide
theorem bp_108 : (Int8.ofInt (108)).toInt32 = (nI 108) := by decide
theorem bp_109 : (Int8.ofInt (109)).toInt32 = (nI 109) := by decide
theorem bp_110 : (Int8.ofInt (110)).toInt32 = (nI 110) := by decide
theorem bp_111 : (Int8.ofInt (111)).toInt32 = (nI 111) := by decide
theorem bp_112 : (Int8.ofInt (112)).toInt32 = (nI 112) := by decide
theorem bp_113 : (Int8.ofInt (113)).toInt32 = (nI 113) := by decide
theorem bp_114 : (Int8.ofInt (114)).toInt32 = (nI 114) := by decide
theorem bp_116 : (Int8.ofInt (116)).toInt32 = (nI 116) := by decide
theorem bp_117 : (Int8.ofInt (117)).toInt32 = (nI 117) := by decide
theorem bp_118 : (Int8.ofInt (118)).toInt32 = (nI 118) := by decide
theorem bp_119 : (Int8.ofInt (119)).toInt32 = (nI 119) := by decide
theorem bp_120 : (Int8.ofInt (120)).toInt32 = (nI 120) := by decide
theorem bp_121 : (Int8.ofInt (121)).toInt32 = (nI 121) := by decide
theorem bp_123 : (Int8.ofInt (123)).toInt32 = (nI 123) := by decide
theorem bp_124 : (Int8.ofInt (124)).toInt32 = (nI 124) := by decide
theorem bp_125 : (Int8.ofInt (125)).toInt32 = (nI 125) := by decide
theorem bp_126 : (Int8.ofInt (126)).toInt32 = (nI 126) := by decide
theorem bp_127 : (Int8.ofInt (127)).toInt32 = (nI 127) := by decide
theorem sp_128 : (Int16.ofInt (128)).toInt32 = (nI 128) := by decide
theorem sp_129 : (Int16.ofInt (129)).toInt32 = (nI 129) := by decide
theorem sp_130 : (Int16.ofInt (130)).toInt32 = (nI 130) := by decide
theorem sp_131 : (Int16.ofInt (131)).toInt32 = (nI 131) := by decide
theorem sp_132 : (Int16.ofInt (132)).toInt32 = (nI 132) := by decide
theorem sp_133 : (Int16.ofInt (133)).toInt32 = (nI 133) := by decide
theorem sp_134 : (Int16.ofInt (134)).toInt32 = (nI 134) := by decide
theorem sp_135 : (Int16.ofInt (135)).toInt32 = (nI 135) := by decide
theorem sp_136 : (Int16.ofInt (136)).toInt32 = (nI 136) := by decide
theorem sp_137 : (Int16.ofInt (137)).toInt32 = (nI 137) := by decide
theorem sp_138 : (Int16.ofInt (138)).toInt32 = (nI 138) := by decide
theorem sp_139 : (Int16.ofInt (139)).toInt32 = (nI 139) := by decide
theorem sp_141 : (Int16.ofInt (141)).toInt32 = (nI 141) := by decide
theorem sp_160 : (Int16.ofInt (160)).toInt32 = (nI 160) := by decide
theorem sp_420 : (Int16.ofInt (420)).toInt32 = (nI 420) := by decide
theorem sp_690 : (Int16.ofInt (690)).toInt32 = (nI 690) := by decide
theorem sp_1089 : (Int16.ofInt (1089)).toInt32 = (nI 1089) := by decide
theorem sp_1200 : (Int16.ofInt (1200)).toInt32 = (nI 1200) := by decide
theorem sp_2400 : (Int16.ofInt (2400)).toInt32 = (nI 2400) := by decide
theorem sp_16807 : (Int16.ofInt (16807)).toInt32 = (nI 16807) := by decide
theorem kdM_k {kd kd1 : Kd} {sz N M b : Nat} {kt : Nat × Nat × Nat} (hn : ∀ j, j < N + 1 → ¬ (kd (sz + j)).1 < 90) (h1 : kd1 = kdM kd sz N M) (h90 : kt.1 < 90) (hb : kd b = kt) : kd1 b = kt := by subst h1; exact kdM_keep hn h90 hb
theorem kd25 {kd : Kd} {b k : Nat} (h : (kd b).1 = k) : kd b = (k, (kd b).2.1, (kd b).2.2) := by rw [← h]
/-- GingerRents$House.<init>()V -/
noncomputable def x3_init (z : Nat) (sz sl : Nat) (kd : Kd) (P : Ptr) (I : Mem) (a : Nat) : Option (Unit × Sy) := moB sz sl <|
  (alA z kd sz (nI 4)).bind fun len2 =>
  nmA (sz + 1) (sl + len2) (upA kd sz (20, len2, 0)) (upA P sz (fun _ => none)) (upA I sz (fun _ => 0)) fun sz4 sl4 kd4 P4 I4 =>
  nm (upP P4 a 0 (some sz)) fun P6 =>
  chk (∀ cs, cvOk cs z kd4 (upA kd4 a (3, 0, 0)) P6 I4) (some ((), sz4, sl4, (upA kd4 a (3, 0, 0)), P6, I4))
theorem wdb_x3_init : yX3_init.cls ≠ "java/lang/invoke/MethodHandle" ∧ yX3_init.cls ≠ "java/lang/invoke/VarHandle" ∧ (parseMethodDescriptor yX3_init.desc).map (fun d => d.parameters.length) = some 0 := by decide
set_option maxRecDepth 100000 in
theorem ct_x3_init {cs : Cs} {z : Nat} (sz sl : Nat) (kd : Kd) (P : Ptr) (I : Mem) (a : Nat) (ha : kd a = (43, 0, 0)) : CtB cs z yX3_init cX3_init 1 none (2) (40) [.ref a] (sz, sl, kd, P, I) (fun _ => none) (x3_init z sz sl kd P I a) := by
  refine CtB.ofM RX3 (by decide) rfl (Nat.le_of_ble_eq_true rfl) ?_
  intro l D p e s m args below meth c hlt hsh K hr hlk hname hK
  refine g_sub (ls' := [(0, .ref a)]) [0] rfl ?_
  refine g_aloadn K 0 rfl rfl 1 dX3_init_0 rfl ?_
  refine ga_objInit K hK hsh 4 q251 q192 q193 (Nat.le_of_ble_eq_true rfl) (Nat.le_of_ble_eq_true rfl) (Nat.le_of_ble_eq_true rfl) dX3_init_1 rfl ?_
  refine g_aloadn K 0 rfl rfl 5 dX3_init_4 rfl ?_
  refine g_iconst K (nI 4) ic_4 6 dX3_init_5 rfl ?_
  refine ga_newi K hK hsh 8 dX3_init_6 rfl q220 (fun len2 hl3 hn1 hsh => ?_)
  refine g_nmA (fun sz4 sl4 kd4 P4 I4 _ _ he4 _ _ => ?_)
  replace hsh : Shp z kd4 := by rw [he4]; exact hsh
  have hk5 := kd_keep hn1 he4 (Nat.le_of_ble_eq_true rfl) ha
  refine ga_putpF K hK hsh 0 (ty := .array (.int)) 11 in_X3 tyX3 tyX3_ok nmX3 hk5 rfl rfl (Nat.le_of_ble_eq_true rfl) rfl (by decide) q252 rfl hname rfl (by decide +kernel) rfl rfl (Nat.le_of_ble_eq_true rfl) dX3_init_8 rfl (fun P6 _ => ?_)
  refine g_chk (fun hcv7 => ?_)
  refine g_cv (hcv7 cs) ?_
  exact ga_vret K hr hlk dX3_init_11 rfl
/-- GingerRents$Rows.<init>(I)V -/
noncomputable def x2_init (z : Nat) (sz sl : Nat) (kd : Kd) (P : Ptr) (I : Mem) (a : Nat) (x1 : Int32) : Option (Unit × Sy) := moB sz sl <|
  (alM z kd sz x1 (nI 2)).bind fun nm6 =>
  nmA (sz + 1 + nm6.1) (sl + nm6.1 + nm6.1 * nm6.2) (kdM kd sz nm6.1 nm6.2) (upR P sz (nm6.1 + 1) (fun _ => none)) (upR I sz (nm6.1 + 1) (fun _ => 0)) fun sz7 sl7 kd7 P7 I7 =>
  nm (upP P7 a 0 (some sz)) fun P9 =>
  chk (∀ cs, cvOk cs z kd7 (upA kd7 a (2, x1.toNatClampNeg, 0)) P9 I7) (some ((), sz7, sl7, (upA kd7 a (2, x1.toNatClampNeg, 0)), P9, I7))
theorem wdb_x2_init : yX2_init.cls ≠ "java/lang/invoke/MethodHandle" ∧ yX2_init.cls ≠ "java/lang/invoke/VarHandle" ∧ (parseMethodDescriptor yX2_init.desc).map (fun d => d.parameters.length) = some 1 := by decide
set_option maxRecDepth 100000 in
theorem ct_x2_init {cs : Cs} {z : Nat} (sz sl : Nat) (kd : Kd) (P : Ptr) (I : Mem) (a : Nat) (x1 : Int32) (ha : kd a = (42, 0, 0)) : CtB cs z yX2_init cX2_init 2 none (2) (40) [.ref a, .int x1] (sz, sl, kd, P, I) (fun _ => none) (x2_init z sz sl kd P I a x1) := by
  refine CtB.ofM RX2 (by decide) rfl (Nat.le_of_ble_eq_true rfl) ?_
  intro l D p e s m args below meth c hlt hsh K hr hlk hname hK
  refine g_sub (ls' := [(0, .ref a), (1, .int x1)]) [0, 1] rfl ?_
  refine g_aloadn K 0 rfl rfl 1 dX2_init_0 rfl ?_
  refine ga_objInit K hK hsh 4 q209 q192 q193 (Nat.le_of_ble_eq_true rfl) (Nat.le_of_ble_eq_true rfl) (Nat.le_of_ble_eq_true rfl) dX2_init_1 rfl ?_
  refine g_aloadn K 0 rfl rfl 5 dX2_init_4 rfl ?_
  refine g_iloadn K 1 rfl rfl 6 dX2_init_5 rfl ?_
  refine g_iconst K (nI 2) ic_2 7 dX2_init_6 rfl ?_
  refine ga_multi K hK hsh 11 dX2_init_7 rfl q210 q220 (fun N1 M2 hN3 hM4 hn5 hsh => ?_)
  dsimp only
  refine g_nmA (fun sz7 sl7 kd7 P7 I7 _ _ he7 _ _ => ?_)
  replace hsh : Shp z kd7 := by rw [he7]; exact hsh
  have hk8 := kdM_k hn5 he7 (Nat.le_of_ble_eq_true rfl) ha
  refine ga_putpF K hK hsh 0 (ty := .array (.array (.int))) 14 in_X2 tyX2 tyX2_ok nmX2 hk8 rfl rfl (Nat.le_of_ble_eq_true rfl) rfl (by decide) q211 rfl hname rfl (by decide +kernel) rfl rfl (Nat.le_of_ble_eq_true rfl) dX2_init_11 rfl (fun P9 _ => ?_)
  refine g_chk (fun hcv10 => ?_)
  refine g_cv (hcv10 cs) ?_
  exact ga_vret K hr hlk dX2_init_14 rfl
/-- GingerRents$Term.<init>()V -/
noncomputable def x7_init (z : Nat) (sz sl : Nat) (kd : Kd) (P : Ptr) (I : Mem) (a : Nat) : Option (Unit × Sy) := moB sz sl <|
  some ((), sz, sl, kd, P, I)
theorem wdb_x7_init : yX7_init.cls ≠ "java/lang/invoke/MethodHandle" ∧ yX7_init.cls ≠ "java/lang/invoke/VarHandle" ∧ (parseMethodDescriptor yX7_init.desc).map (fun d => d.parameters.length) = some 0 := by decide
set_option maxRecDepth 100000 in
theorem ct_x7_init {cs : Cs} {z : Nat} (sz sl : Nat) (kd : Kd) (P : Ptr) (I : Mem) (a : Nat) : CtB cs z yX7_init cX7_init 1 none (2) (40) [.ref a] (sz, sl, kd, P, I) (fun _ => none) (x7_init z sz sl kd P I a) := by
  refine CtB.ofM RX7 (by decide) rfl (Nat.le_of_ble_eq_true rfl) ?_
  intro l D p e s m args below meth c hlt hsh K hr hlk hname hK
  refine g_sub (ls' := [(0, .ref a)]) [0] rfl ?_
  refine g_aloadn K 0 rfl rfl 1 dX7_init_0 rfl ?_
  refine ga_objInit K hK hsh 4 q739 q192 q193 (Nat.le_of_ble_eq_true rfl) (Nat.le_of_ble_eq_true rfl) (Nat.le_of_ble_eq_true rfl) dX7_init_1 rfl ?_
  exact ga_vret K hr hlk dX7_init_4 rfl
/-- GingerRents$Fixed.<init>(I)V -/
noncomputable def x8_init (z : Nat) (sz sl : Nat) (kd : Kd) (P : Ptr) (I : Mem) (a : Nat) (x1 : Int32) : Option (Unit × Sy) := moB sz sl <|
  cal (x7_init z sz sl kd P I a) fun u2 sz1 sl1 kd1 P1 I1 =>
  chk (Shp z kd1 ∧ Ext kd kd1) (
  nm (up2 I1 a 0 x1) fun I5 =>
  some ((), sz1, sl1, kd1, P1, I5))
theorem wdb_x8_init : yX8_init.cls ≠ "java/lang/invoke/MethodHandle" ∧ yX8_init.cls ≠ "java/lang/invoke/VarHandle" ∧ (parseMethodDescriptor yX8_init.desc).map (fun d => d.parameters.length) = some 1 := by decide
set_option maxRecDepth 100000 in
theorem ct_x8_init {cs : Cs} {z : Nat} (sz sl : Nat) (kd : Kd) (P : Ptr) (I : Mem) (a : Nat) (x1 : Int32) (ha : kd a = (7, 0, 0)) : CtB cs z yX8_init cX8_init 2 none (3) (60) [.ref a, .int x1] (sz, sl, kd, P, I) (fun _ => none) (x8_init z sz sl kd P I a x1) := by
  refine CtB.ofM RX8 (by decide) rfl (Nat.le_of_ble_eq_true rfl) ?_
  intro l D p e s m args below meth c hlt hsh K hr hlk hname hK
  refine g_sub (ls' := [(0, .ref a), (1, .int x1)]) [0, 1] rfl ?_
  refine g_aloadn K 0 rfl rfl 1 dX8_init_0 rfl ?_
  refine gb_callIN K hK hsh hlt 4 (ct_x7_init sz sl kd P I a ) (lw_meth q738) q170 (nm_q736 hK.2) q737 rfl wdb_x7_init (by decide) rfl (Nat.le_of_ble_eq_true rfl) dX8_init_1 rfl (fun u2 sz1 sl1 kd1 P1 I1 _ => ?_)
  try dsimp only
  refine g_chk (fun hc => ?_)
  obtain ⟨hsh, hx3⟩ := hc
  have hk4 := hx3.at ha (Nat.le_of_ble_eq_true rfl)
  refine g_aloadn K 0 rfl rfl 5 dX8_init_4 rfl ?_
  refine g_iloadn K 1 rfl rfl 6 dX8_init_5 rfl ?_
  refine ga_putF K hK hsh 0 (ty := .int) 9 in_X8 tyX8 tyX8_ok nmX8 hk4 rfl rfl (Nat.le_of_ble_eq_true rfl) rfl (by decide) q740 rfl hname rfl (by decide +kernel) rfl rfl (Nat.le_of_ble_eq_true rfl) dX8_init_6 rfl (fun I5 _ => ?_)
  exact ga_vret K hr hlk dX8_init_9 rfl
/-- GingerRents$Known.<init>(I)V -/
noncomputable def x9_init (z : Nat) (sz sl : Nat) (kd : Kd) (P : Ptr) (I : Mem) (a : Nat) (x1 : Int32) : Option (Unit × Sy) := moB sz sl <|
  cal (x7_init z sz sl kd P I a) fun u2 sz1 sl1 kd1 P1 I1 =>
  chk (Shp z kd1 ∧ Ext kd kd1) (
  nm (up2 I1 a 0 x1) fun I5 =>
  some ((), sz1, sl1, kd1, P1, I5))
theorem wdb_x9_init : yX9_init.cls ≠ "java/lang/invoke/MethodHandle" ∧ yX9_init.cls ≠ "java/lang/invoke/VarHandle" ∧ (parseMethodDescriptor yX9_init.desc).map (fun d => d.parameters.length) = some 1 := by decide
set_option maxRecDepth 100000 in
theorem ct_x9_init {cs : Cs} {z : Nat} (sz sl : Nat) (kd : Kd) (P : Ptr) (I : Mem) (a : Nat) (x1 : Int32) (ha : kd a = (8, 0, 0)) : CtB cs z yX9_init cX9_init 2 none (3) (60) [.ref a, .int x1] (sz, sl, kd, P, I) (fun _ => none) (x9_init z sz sl kd P I a x1) := by
  refine CtB.ofM RX9 (by decide) rfl (Nat.le_of_ble_eq_true rfl) ?_
  intro l D p e s m args below meth c hlt hsh K hr hlk hname hK
  refine g_sub (ls' := [(0, .ref a), (1, .int x1)]) [0, 1] rfl ?_
  refine g_aloadn K 0 rfl rfl 1 dX9_init_0 rfl ?_
  refine gb_callIN K hK hsh hlt 4 (ct_x7_init sz sl kd P I a ) (lw_meth q738) q170 (nm_q749 hK.2) q737 rfl wdb_x7_init (by decide) rfl (Nat.le_of_ble_eq_true rfl) dX9_init_1 rfl (fun u2 sz1 sl1 kd1 P1 I1 _ => ?_)
  try dsimp only
  refine g_chk (fun hc => ?_)
  obtain ⟨hsh, hx3⟩ := hc
  have hk4 := hx3.at ha (Nat.le_of_ble_eq_true rfl)
  refine g_aloadn K 0 rfl rfl 5 dX9_init_4 rfl ?_
  refine g_iloadn K 1 rfl rfl 6 dX9_init_5 rfl ?_
  refine ga_putF K hK hsh 0 (ty := .int) 9 in_X9 tyX9 tyX9_ok nmX9 hk4 rfl rfl (Nat.le_of_ble_eq_true rfl) rfl (by decide) q750 rfl hname rfl (by decide +kernel) rfl rfl (Nat.le_of_ble_eq_true rfl) dX9_init_6 rfl (fun I5 _ => ?_)
  exact ga_vret K hr hlk dX9_init_9 rfl
/-- GingerRents$Joined.<init>(LGingerRents$Term;ILGingerRents$Term;)V -/
noncomputable def x10_init (z : Nat) (sz sl : Nat) (kd : Kd) (P : Ptr) (I : Mem) (a : Nat) (x1 : Nat) (x2 : Int32) (x3 : Nat) : Option (Unit × Sy) := moB sz sl <|
  cal (x7_init z sz sl kd P I a) fun u2 sz1 sl1 kd1 P1 I1 =>
  chk (Shp z kd1 ∧ Ext kd kd1) (
  nm (upP P1 a 0 (some x1)) fun P5 =>
  nm (up2 I1 a 2 x2) fun I6 =>
  nm (upP P5 a 1 (some x3)) fun P7 =>
  some ((), sz1, sl1, kd1, P7, I6))
theorem wdb_x10_init : yX10_init.cls ≠ "java/lang/invoke/MethodHandle" ∧ yX10_init.cls ≠ "java/lang/invoke/VarHandle" ∧ (parseMethodDescriptor yX10_init.desc).map (fun d => d.parameters.length) = some 3 := by decide
set_option maxRecDepth 100000 in
theorem ct_x10_init {cs : Cs} {z : Nat} (sz sl : Nat) (kd : Kd) (P : Ptr) (I : Mem) (a : Nat) (x1 : Nat) (x2 : Int32) (x3 : Nat) (ha : kd a = (9, 0, 0)) : CtB cs z yX10_init cX10_init 4 none (3) (60) [.ref a, .ref x1, .int x2, .ref x3] (sz, sl, kd, P, I) (fun _ => none) (x10_init z sz sl kd P I a x1 x2 x3) := by
  refine CtB.ofM RX10 (by decide) rfl (Nat.le_of_ble_eq_true rfl) ?_
  intro l D p e s m args below meth c hlt hsh K hr hlk hname hK
  refine g_sub (ls' := [(0, .ref a), (1, .ref x1), (2, .int x2), (3, .ref x3)]) [0, 1, 2, 3] rfl ?_
  refine g_aloadn K 0 rfl rfl 1 dX10_init_0 rfl ?_
  refine gb_callIN K hK hsh hlt 4 (ct_x7_init sz sl kd P I a ) (lw_meth q738) q170 (nm_q759 hK.2) q737 rfl wdb_x7_init (by decide) rfl (Nat.le_of_ble_eq_true rfl) dX10_init_1 rfl (fun u2 sz1 sl1 kd1 P1 I1 _ => ?_)
  try dsimp only
  refine g_chk (fun hc => ?_)
  obtain ⟨hsh, hx3⟩ := hc
  have hk4 := hx3.at ha (Nat.le_of_ble_eq_true rfl)
  refine g_aloadn K 0 rfl rfl 5 dX10_init_4 rfl ?_
  refine g_aloadn K 1 rfl rfl 6 dX10_init_5 rfl ?_
  refine ga_putpF K hK hsh 0 (ty := .object "GingerRents$Term") 9 in_X10 tyX10 tyX10_ok nmX10 hk4 rfl rfl (Nat.le_of_ble_eq_true rfl) rfl (by decide) q760 rfl hname rfl (by decide +kernel) rfl rfl (Nat.le_of_ble_eq_true rfl) dX10_init_6 rfl (fun P5 _ => ?_)
  refine g_aloadn K 0 rfl rfl 10 dX10_init_9 rfl ?_
  refine g_iloadn K 2 rfl rfl 11 dX10_init_10 rfl ?_
  refine ga_putF K hK hsh 2 (ty := .int) 14 in_X10 tyX10 tyX10_ok nmX10 hk4 rfl rfl (Nat.le_of_ble_eq_true rfl) rfl (by decide) q762 rfl hname rfl (by decide +kernel) rfl rfl (Nat.le_of_ble_eq_true rfl) dX10_init_11 rfl (fun I6 _ => ?_)
  refine g_aloadn K 0 rfl rfl 15 dX10_init_14 rfl ?_
  refine g_aloadn K 3 rfl rfl 16 dX10_init_15 rfl ?_
  refine ga_putpF K hK hsh 1 (ty := .object "GingerRents$Term") 19 in_X10 tyX10 tyX10_ok nmX10 hk4 rfl rfl (Nat.le_of_ble_eq_true rfl) rfl (by decide) q761 rfl hname rfl (by decide +kernel) rfl rfl (Nat.le_of_ble_eq_true rfl) dX10_init_16 rfl (fun P7 _ => ?_)
  exact ga_vret K hr hlk dX10_init_19 rfl
/-- GingerRents$Not.<init>(LGingerRents$Term;)V -/
noncomputable def x11_init (z : Nat) (sz sl : Nat) (kd : Kd) (P : Ptr) (I : Mem) (a : Nat) (x1 : Nat) : Option (Unit × Sy) := moB sz sl <|
  cal (x7_init z sz sl kd P I a) fun u2 sz1 sl1 kd1 P1 I1 =>
  chk (Shp z kd1 ∧ Ext kd kd1) (
  nm (upP P1 a 0 (some x1)) fun P5 =>
  some ((), sz1, sl1, kd1, P5, I1))
theorem wdb_x11_init : yX11_init.cls ≠ "java/lang/invoke/MethodHandle" ∧ yX11_init.cls ≠ "java/lang/invoke/VarHandle" ∧ (parseMethodDescriptor yX11_init.desc).map (fun d => d.parameters.length) = some 1 := by decide
set_option maxRecDepth 100000 in
theorem ct_x11_init {cs : Cs} {z : Nat} (sz sl : Nat) (kd : Kd) (P : Ptr) (I : Mem) (a : Nat) (x1 : Nat) (ha : kd a = (10, 0, 0)) : CtB cs z yX11_init cX11_init 2 none (3) (60) [.ref a, .ref x1] (sz, sl, kd, P, I) (fun _ => none) (x11_init z sz sl kd P I a x1) := by
  refine CtB.ofM RX11 (by decide) rfl (Nat.le_of_ble_eq_true rfl) ?_
  intro l D p e s m args below meth c hlt hsh K hr hlk hname hK
  refine g_sub (ls' := [(0, .ref a), (1, .ref x1)]) [0, 1] rfl ?_
  refine g_aloadn K 0 rfl rfl 1 dX11_init_0 rfl ?_
  refine gb_callIN K hK hsh hlt 4 (ct_x7_init sz sl kd P I a ) (lw_meth q738) q170 (nm_q791 hK.2) q737 rfl wdb_x7_init (by decide) rfl (Nat.le_of_ble_eq_true rfl) dX11_init_1 rfl (fun u2 sz1 sl1 kd1 P1 I1 _ => ?_)
  try dsimp only
  refine g_chk (fun hc => ?_)
  obtain ⟨hsh, hx3⟩ := hc
  have hk4 := hx3.at ha (Nat.le_of_ble_eq_true rfl)
  refine g_aloadn K 0 rfl rfl 5 dX11_init_4 rfl ?_
  refine g_aloadn K 1 rfl rfl 6 dX11_init_5 rfl ?_
  refine ga_putpF K hK hsh 0 (ty := .object "GingerRents$Term") 9 in_X11 tyX11 tyX11_ok nmX11 hk4 rfl rfl (Nat.le_of_ble_eq_true rfl) rfl (by decide) q792 rfl hname rfl (by decide +kernel) rfl rfl (Nat.le_of_ble_eq_true rfl) dX11_init_6 rfl (fun P5 _ => ?_)
  exact ga_vret K hr hlk dX11_init_9 rfl
/-- GingerRents$Line.<init>(ILGingerRents$Term;LGingerRents$Term;)V -/
noncomputable def x12_init (z : Nat) (sz sl : Nat) (kd : Kd) (P : Ptr) (I : Mem) (a : Nat) (x1 : Int32) (x2 : Nat) (x3 : Option Nat) : Option (Unit × Sy) := moB sz sl <|
  nm (up2 I a 0 x1) fun I1 =>
  nm (upP P a 1 (some x2)) fun P2 =>
  nm (upP P2 a 2 x3) fun P3 =>
  some ((), sz, sl, kd, P3, I1)
theorem wdb_x12_init : yX12_init.cls ≠ "java/lang/invoke/MethodHandle" ∧ yX12_init.cls ≠ "java/lang/invoke/VarHandle" ∧ (parseMethodDescriptor yX12_init.desc).map (fun d => d.parameters.length) = some 3 := by decide
set_option maxRecDepth 100000 in
theorem ct_x12_init {cs : Cs} {z : Nat} (sz sl : Nat) (kd : Kd) (P : Ptr) (I : Mem) (a : Nat) (x1 : Int32) (x2 : Nat) (x3 : Option Nat) (ha : kd a = (11, 0, 0)) : CtB cs z yX12_init cX12_init 4 none (2) (40) [.ref a, .int x1, .ref x2, va_rf x3] (sz, sl, kd, P, I) (fun _ => none) (x12_init z sz sl kd P I a x1 x2 x3) := by
  refine CtB.ofM RX12 (by decide) rfl (by cases x3 <;> exact Nat.le_of_ble_eq_true rfl) ?_
  intro l D p e s m args below meth c hlt hsh K hr hlk hname hK
  refine g_sub (ls' := [(0, .ref a), (1, .int x1), (2, .ref x2), (3, (va_rf x3))]) [0, 1, 2, 3] rfl ?_
  refine g_aloadn K 0 rfl rfl 1 dX12_init_0 rfl ?_
  refine ga_objInit K hK hsh 4 q805 q192 q193 (Nat.le_of_ble_eq_true rfl) (Nat.le_of_ble_eq_true rfl) (Nat.le_of_ble_eq_true rfl) dX12_init_1 rfl ?_
  refine g_aloadn K 0 rfl rfl 5 dX12_init_4 rfl ?_
  refine g_iloadn K 1 rfl rfl 6 dX12_init_5 rfl ?_
  refine ga_putF K hK hsh 0 (ty := .int) 9 in_X12 tyX12 tyX12_ok nmX12 ha rfl rfl (Nat.le_of_ble_eq_true rfl) rfl (by decide) q806 rfl hname rfl (by decide +kernel) rfl rfl (Nat.le_of_ble_eq_true rfl) dX12_init_6 rfl (fun I1 _ => ?_)
  refine g_aloadn K 0 rfl rfl 10 dX12_init_9 rfl ?_
  refine g_aloadn K 2 rfl rfl 11 dX12_init_10 rfl ?_
  refine ga_putpF K hK hsh 1 (ty := .object "GingerRents$Term") 14 in_X12 tyX12 tyX12_ok nmX12 ha rfl rfl (Nat.le_of_ble_eq_true rfl) rfl (by decide) q808 rfl hname rfl (by decide +kernel) rfl rfl (Nat.le_of_ble_eq_true rfl) dX12_init_11 rfl (fun P2 _ => ?_)
  refine g_aloadn K 0 rfl rfl 15 dX12_init_14 rfl ?_
  refine g_aloadnq K 3 rfl rfl 16 dX12_init_15 rfl ?_
  refine ga_putqF K hK hsh 2 (ty := .object "GingerRents$Term") 19 in_X12 tyX12 tyX12_ok nmX12 ha rfl rfl (Nat.le_of_ble_eq_true rfl) rfl (by decide) q810 rfl hname rfl (by decide +kernel) (by cases x3 <;> rfl) (by cases x3 <;> rfl) (Nat.le_of_ble_eq_true rfl) dX12_init_16 rfl (fun P3 _ => ?_)
  exact ga_vret K hr hlk dX12_init_19 rfl
/-- GingerRents$Entry.<init>(II)V -/
noncomputable def x13_init_12 (z : Nat) (sz sl : Nat) (kd : Kd) (P : Ptr) (I : Mem) (a : Nat) (x1 : Int32) (x2 : Int32) : Option (Unit × Sy) := moB sz sl <|
  nm (up2 I a 0 x1) fun I1 =>
  nm (up2 I1 a 1 x2) fun I2 =>
  some ((), sz, sl, kd, P, I2)
theorem wdb_x13_init : yX13_init.cls ≠ "java/lang/invoke/MethodHandle" ∧ yX13_init.cls ≠ "java/lang/invoke/VarHandle" ∧ (parseMethodDescriptor yX13_init.desc).map (fun d => d.parameters.length) = some 2 := by decide
set_option maxRecDepth 100000 in
theorem ct_x13_init_12 {cs : Cs} {z : Nat} (sz sl : Nat) (kd : Kd) (P : Ptr) (I : Mem) (a : Nat) (x1 : Int32) (x2 : Int32) (ha : kd a = (12, 0, 0)) : CtB cs z yX13_init cX13_init 3 none (2) (40) [.ref a, .int x1, .int x2] (sz, sl, kd, P, I) (fun _ => none) (x13_init_12 z sz sl kd P I a x1 x2) := by
  refine CtB.ofM RX13 (by decide) rfl (Nat.le_of_ble_eq_true rfl) ?_
  intro l D p e s m args below meth c hlt hsh K hr hlk hname hK
  refine g_sub (ls' := [(0, .ref a), (1, .int x1), (2, .int x2)]) [0, 1, 2] rfl ?_
  refine g_aloadn K 0 rfl rfl 1 dX13_init_0 rfl ?_
  refine ga_objInit K hK hsh 4 q902 q192 q193 (Nat.le_of_ble_eq_true rfl) (Nat.le_of_ble_eq_true rfl) (Nat.le_of_ble_eq_true rfl) dX13_init_1 rfl ?_
  refine g_aloadn K 0 rfl rfl 5 dX13_init_4 rfl ?_
  refine g_iloadn K 1 rfl rfl 6 dX13_init_5 rfl ?_
  refine ga_putF K hK hsh 0 (ty := .int) 9 in_X14 tyX14 tyX14_ok nmX14 ha rfl rfl (Nat.le_of_ble_eq_true rfl) rfl (by decide) q903 rfl hname rfl (by decide +kernel) rfl rfl (Nat.le_of_ble_eq_true rfl) dX13_init_6 rfl (fun I1 _ => ?_)
  refine g_aloadn K 0 rfl rfl 10 dX13_init_9 rfl ?_
  refine g_iloadn K 2 rfl rfl 11 dX13_init_10 rfl ?_
  refine ga_putF K hK hsh 1 (ty := .int) 14 in_X14 tyX14 tyX14_ok nmX14 ha rfl rfl (Nat.le_of_ble_eq_true rfl) rfl (by decide) q904 rfl hname rfl (by decide +kernel) rfl rfl (Nat.le_of_ble_eq_true rfl) dX13_init_11 rfl (fun I2 _ => ?_)
  exact ga_vret K hr hlk dX13_init_14 rfl
/-- GingerRents$Entry.<init>(II)V -/
noncomputable def x13_init_13 (z : Nat) (sz sl : Nat) (kd : Kd) (P : Ptr) (I : Mem) (a : Nat) (x1 : Int32) (x2 : Int32) : Option (Unit × Sy) := moB sz sl <|
  nm (up2 I a 0 x1) fun I1 =>
  nm (up2 I1 a 1 x2) fun I2 =>
  some ((), sz, sl, kd, P, I2)
set_option maxRecDepth 100000 in
theorem ct_x13_init_13 {cs : Cs} {z : Nat} (sz sl : Nat) (kd : Kd) (P : Ptr) (I : Mem) (a : Nat) (x1 : Int32) (x2 : Int32) (ha : kd a = (13, 0, 0)) : CtB cs z yX13_init cX13_init 3 none (2) (40) [.ref a, .int x1, .int x2] (sz, sl, kd, P, I) (fun _ => none) (x13_init_13 z sz sl kd P I a x1 x2) := by
  refine CtB.ofM RX13 (by decide) rfl (Nat.le_of_ble_eq_true rfl) ?_
  intro l D p e s m args below meth c hlt hsh K hr hlk hname hK
  refine g_sub (ls' := [(0, .ref a), (1, .int x1), (2, .int x2)]) [0, 1, 2] rfl ?_
  refine g_aloadn K 0 rfl rfl 1 dX13_init_0 rfl ?_
  refine ga_objInit K hK hsh 4 q902 q192 q193 (Nat.le_of_ble_eq_true rfl) (Nat.le_of_ble_eq_true rfl) (Nat.le_of_ble_eq_true rfl) dX13_init_1 rfl ?_
  refine g_aloadn K 0 rfl rfl 5 dX13_init_4 rfl ?_
  refine g_iloadn K 1 rfl rfl 6 dX13_init_5 rfl ?_
  refine ga_putF K hK hsh 0 (ty := .int) 9 in_X15 tyX15 tyX15_ok nmX15 ha rfl rfl (Nat.le_of_ble_eq_true rfl) rfl (by decide) q903 rfl hname rfl (by decide +kernel) rfl rfl (Nat.le_of_ble_eq_true rfl) dX13_init_6 rfl (fun I1 _ => ?_)
  refine g_aloadn K 0 rfl rfl 10 dX13_init_9 rfl ?_
  refine g_iloadn K 2 rfl rfl 11 dX13_init_10 rfl ?_
  refine ga_putF K hK hsh 1 (ty := .int) 14 in_X15 tyX15 tyX15_ok nmX15 ha rfl rfl (Nat.le_of_ble_eq_true rfl) rfl (by decide) q904 rfl hname rfl (by decide +kernel) rfl rfl (Nat.le_of_ble_eq_true rfl) dX13_init_11 rfl (fun I2 _ => ?_)
  exact ga_vret K hr hlk dX13_init_14 rfl
/-- GingerRents$Entry.<init>(II)V -/
noncomputable def x13_init_14 (z : Nat) (sz sl : Nat) (kd : Kd) (P : Ptr) (I : Mem) (a : Nat) (x1 : Int32) (x2 : Int32) : Option (Unit × Sy) := moB sz sl <|
  nm (up2 I a 0 x1) fun I1 =>
  nm (up2 I1 a 1 x2) fun I2 =>
  some ((), sz, sl, kd, P, I2)
set_option maxRecDepth 100000 in
theorem ct_x13_init_14 {cs : Cs} {z : Nat} (sz sl : Nat) (kd : Kd) (P : Ptr) (I : Mem) (a : Nat) (x1 : Int32) (x2 : Int32) (ha : kd a = (14, 0, 0)) : CtB cs z yX13_init cX13_init 3 none (2) (40) [.ref a, .int x1, .int x2] (sz, sl, kd, P, I) (fun _ => none) (x13_init_14 z sz sl kd P I a x1 x2) := by
  refine CtB.ofM RX13 (by decide) rfl (Nat.le_of_ble_eq_true rfl) ?_
  intro l D p e s m args below meth c hlt hsh K hr hlk hname hK
  refine g_sub (ls' := [(0, .ref a), (1, .int x1), (2, .int x2)]) [0, 1, 2] rfl ?_
  refine g_aloadn K 0 rfl rfl 1 dX13_init_0 rfl ?_
  refine ga_objInit K hK hsh 4 q902 q192 q193 (Nat.le_of_ble_eq_true rfl) (Nat.le_of_ble_eq_true rfl) (Nat.le_of_ble_eq_true rfl) dX13_init_1 rfl ?_
  refine g_aloadn K 0 rfl rfl 5 dX13_init_4 rfl ?_
  refine g_iloadn K 1 rfl rfl 6 dX13_init_5 rfl ?_
  refine ga_putF K hK hsh 0 (ty := .int) 9 in_X16 tyX16 tyX16_ok nmX16 ha rfl rfl (Nat.le_of_ble_eq_true rfl) rfl (by decide) q903 rfl hname rfl (by decide +kernel) rfl rfl (Nat.le_of_ble_eq_true rfl) dX13_init_6 rfl (fun I1 _ => ?_)
  refine g_aloadn K 0 rfl rfl 10 dX13_init_9 rfl ?_
  refine g_iloadn K 2 rfl rfl 11 dX13_init_10 rfl ?_
  refine ga_putF K hK hsh 1 (ty := .int) 14 in_X16 tyX16 tyX16_ok nmX16 ha rfl rfl (Nat.le_of_ble_eq_true rfl) rfl (by decide) q904 rfl hname rfl (by decide +kernel) rfl rfl (Nat.le_of_ble_eq_true rfl) dX13_init_11 rfl (fun I2 _ => ?_)
  exact ga_vret K hr hlk dX13_init_14 rfl
/-- GingerRents$Entry.<init>(II)V -/
noncomputable def x13_init_15 (z : Nat) (sz sl : Nat) (kd : Kd) (P : Ptr) (I : Mem) (a : Nat) (x1 : Int32) (x2 : Int32) : Option (Unit × Sy) := moB sz sl <|
  nm (up2 I a 0 x1) fun I1 =>
  nm (up2 I1 a 1 x2) fun I2 =>
  some ((), sz, sl, kd, P, I2)
set_option maxRecDepth 100000 in
theorem ct_x13_init_15 {cs : Cs} {z : Nat} (sz sl : Nat) (kd : Kd) (P : Ptr) (I : Mem) (a : Nat) (x1 : Int32) (x2 : Int32) (ha : kd a = (15, 0, 0)) : CtB cs z yX13_init cX13_init 3 none (2) (40) [.ref a, .int x1, .int x2] (sz, sl, kd, P, I) (fun _ => none) (x13_init_15 z sz sl kd P I a x1 x2) := by
  refine CtB.ofM RX13 (by decide) rfl (Nat.le_of_ble_eq_true rfl) ?_
  intro l D p e s m args below meth c hlt hsh K hr hlk hname hK
  refine g_sub (ls' := [(0, .ref a), (1, .int x1), (2, .int x2)]) [0, 1, 2] rfl ?_
  refine g_aloadn K 0 rfl rfl 1 dX13_init_0 rfl ?_
  refine ga_objInit K hK hsh 4 q902 q192 q193 (Nat.le_of_ble_eq_true rfl) (Nat.le_of_ble_eq_true rfl) (Nat.le_of_ble_eq_true rfl) dX13_init_1 rfl ?_
  refine g_aloadn K 0 rfl rfl 5 dX13_init_4 rfl ?_
  refine g_iloadn K 1 rfl rfl 6 dX13_init_5 rfl ?_
  refine ga_putF K hK hsh 0 (ty := .int) 9 in_X17 tyX17 tyX17_ok nmX17 ha rfl rfl (Nat.le_of_ble_eq_true rfl) rfl (by decide) q903 rfl hname rfl (by decide +kernel) rfl rfl (Nat.le_of_ble_eq_true rfl) dX13_init_6 rfl (fun I1 _ => ?_)
  refine g_aloadn K 0 rfl rfl 10 dX13_init_9 rfl ?_
  refine g_iloadn K 2 rfl rfl 11 dX13_init_10 rfl ?_
  refine ga_putF K hK hsh 1 (ty := .int) 14 in_X17 tyX17 tyX17_ok nmX17 ha rfl rfl (Nat.le_of_ble_eq_true rfl) rfl (by decide) q904 rfl hname rfl (by decide +kernel) rfl rfl (Nat.le_of_ble_eq_true rfl) dX13_init_11 rfl (fun I2 _ => ?_)
  exact ga_vret K hr hlk dX13_init_14 rfl
/-- GingerRents$Entry.<init>(II)V -/
noncomputable def x13_init_16 (z : Nat) (sz sl : Nat) (kd : Kd) (P : Ptr) (I : Mem) (a : Nat) (x1 : Int32) (x2 : Int32) : Option (Unit × Sy) := moB sz sl <|
  nm (up2 I a 0 x1) fun I1 =>
  nm (up2 I1 a 1 x2) fun I2 =>
  some ((), sz, sl, kd, P, I2)
set_option maxRecDepth 100000 in
theorem ct_x13_init_16 {cs : Cs} {z : Nat} (sz sl : Nat) (kd : Kd) (P : Ptr) (I : Mem) (a : Nat) (x1 : Int32) (x2 : Int32) (ha : kd a = (16, 0, 0)) : CtB cs z yX13_init cX13_init 3 none (2) (40) [.ref a, .int x1, .int x2] (sz, sl, kd, P, I) (fun _ => none) (x13_init_16 z sz sl kd P I a x1 x2) := by
  refine CtB.ofM RX13 (by decide) rfl (Nat.le_of_ble_eq_true rfl) ?_
  intro l D p e s m args below meth c hlt hsh K hr hlk hname hK
  refine g_sub (ls' := [(0, .ref a), (1, .int x1), (2, .int x2)]) [0, 1, 2] rfl ?_
  refine g_aloadn K 0 rfl rfl 1 dX13_init_0 rfl ?_
  refine ga_objInit K hK hsh 4 q902 q192 q193 (Nat.le_of_ble_eq_true rfl) (Nat.le_of_ble_eq_true rfl) (Nat.le_of_ble_eq_true rfl) dX13_init_1 rfl ?_
  refine g_aloadn K 0 rfl rfl 5 dX13_init_4 rfl ?_
  refine g_iloadn K 1 rfl rfl 6 dX13_init_5 rfl ?_
  refine ga_putF K hK hsh 0 (ty := .int) 9 in_X18 tyX18 tyX18_ok nmX18 ha rfl rfl (Nat.le_of_ble_eq_true rfl) rfl (by decide) q903 rfl hname rfl (by decide +kernel) rfl rfl (Nat.le_of_ble_eq_true rfl) dX13_init_6 rfl (fun I1 _ => ?_)
  refine g_aloadn K 0 rfl rfl 10 dX13_init_9 rfl ?_
  refine g_iloadn K 2 rfl rfl 11 dX13_init_10 rfl ?_
  refine ga_putF K hK hsh 1 (ty := .int) 14 in_X18 tyX18 tyX18_ok nmX18 ha rfl rfl (Nat.le_of_ble_eq_true rfl) rfl (by decide) q904 rfl hname rfl (by decide +kernel) rfl rfl (Nat.le_of_ble_eq_true rfl) dX13_init_11 rfl (fun I2 _ => ?_)
  exact ga_vret K hr hlk dX13_init_14 rfl
/-- GingerRents$Entry.<init>(II)V -/
noncomputable def x13_init_17 (z : Nat) (sz sl : Nat) (kd : Kd) (P : Ptr) (I : Mem) (a : Nat) (x1 : Int32) (x2 : Int32) : Option (Unit × Sy) := moB sz sl <|
  nm (up2 I a 0 x1) fun I1 =>
  nm (up2 I1 a 1 x2) fun I2 =>
  some ((), sz, sl, kd, P, I2)
set_option maxRecDepth 100000 in
theorem ct_x13_init_17 {cs : Cs} {z : Nat} (sz sl : Nat) (kd : Kd) (P : Ptr) (I : Mem) (a : Nat) (x1 : Int32) (x2 : Int32) (ha : kd a = (17, 0, 0)) : CtB cs z yX13_init cX13_init 3 none (2) (40) [.ref a, .int x1, .int x2] (sz, sl, kd, P, I) (fun _ => none) (x13_init_17 z sz sl kd P I a x1 x2) := by
  refine CtB.ofM RX13 (by decide) rfl (Nat.le_of_ble_eq_true rfl) ?_
  intro l D p e s m args below meth c hlt hsh K hr hlk hname hK
  refine g_sub (ls' := [(0, .ref a), (1, .int x1), (2, .int x2)]) [0, 1, 2] rfl ?_
  refine g_aloadn K 0 rfl rfl 1 dX13_init_0 rfl ?_
  refine ga_objInit K hK hsh 4 q902 q192 q193 (Nat.le_of_ble_eq_true rfl) (Nat.le_of_ble_eq_true rfl) (Nat.le_of_ble_eq_true rfl) dX13_init_1 rfl ?_
  refine g_aloadn K 0 rfl rfl 5 dX13_init_4 rfl ?_
  refine g_iloadn K 1 rfl rfl 6 dX13_init_5 rfl ?_
  refine ga_putF K hK hsh 0 (ty := .int) 9 in_X19 tyX19 tyX19_ok nmX19 ha rfl rfl (Nat.le_of_ble_eq_true rfl) rfl (by decide) q903 rfl hname rfl (by decide +kernel) rfl rfl (Nat.le_of_ble_eq_true rfl) dX13_init_6 rfl (fun I1 _ => ?_)
  refine g_aloadn K 0 rfl rfl 10 dX13_init_9 rfl ?_
  refine g_iloadn K 2 rfl rfl 11 dX13_init_10 rfl ?_
  refine ga_putF K hK hsh 1 (ty := .int) 14 in_X19 tyX19 tyX19_ok nmX19 ha rfl rfl (Nat.le_of_ble_eq_true rfl) rfl (by decide) q904 rfl hname rfl (by decide +kernel) rfl rfl (Nat.le_of_ble_eq_true rfl) dX13_init_11 rfl (fun I2 _ => ?_)
  exact ga_vret K hr hlk dX13_init_14 rfl
/-- GingerRents$Rain.<init>(II)V -/
noncomputable def x14_init (z : Nat) (sz sl : Nat) (kd : Kd) (P : Ptr) (I : Mem) (a : Nat) (x1 : Int32) (x2 : Int32) : Option (Unit × Sy) := moB sz sl <|
  cal (x13_init_12 z sz sl kd P I a x1 x2) fun u2 sz1 sl1 kd1 P1 I1 =>
  chk (Shp z kd1 ∧ Ext kd kd1) (
  some ((), sz1, sl1, kd1, P1, I1))
theorem wdb_x14_init : yX14_init.cls ≠ "java/lang/invoke/MethodHandle" ∧ yX14_init.cls ≠ "java/lang/invoke/VarHandle" ∧ (parseMethodDescriptor yX14_init.desc).map (fun d => d.parameters.length) = some 2 := by decide
set_option maxRecDepth 100000 in
theorem ct_x14_init {cs : Cs} {z : Nat} (sz sl : Nat) (kd : Kd) (P : Ptr) (I : Mem) (a : Nat) (x1 : Int32) (x2 : Int32) (ha : kd a = (12, 0, 0)) : CtB cs z yX14_init cX14_init 3 none (3) (62) [.ref a, .int x1, .int x2] (sz, sl, kd, P, I) (fun _ => none) (x14_init z sz sl kd P I a x1 x2) := by
  refine CtB.ofM RX14 (by decide) rfl (Nat.le_of_ble_eq_true rfl) ?_
  intro l D p e s m args below meth c hlt hsh K hr hlk hname hK
  refine g_sub (ls' := [(0, .ref a), (1, .int x1), (2, .int x2)]) [0, 1, 2] rfl ?_
  refine g_aloadn K 0 rfl rfl 1 dX14_init_0 rfl ?_
  refine g_iloadn K 1 rfl rfl 2 dX14_init_1 rfl ?_
  refine g_iloadn K 2 rfl rfl 3 dX14_init_2 rfl ?_
  refine gb_callI K hK hsh hlt 6 (ct_x13_init_12 sz sl kd P I a x1 x2 ha) (lw_meth q901) q179 q899 q900 rfl wdb_x13_init (by decide) rfl (Nat.le_of_ble_eq_true rfl) dX14_init_3 rfl (fun u2 sz1 sl1 kd1 P1 I1 _ => ?_)
  try dsimp only
  refine g_chk (fun hc => ?_)
  obtain ⟨hsh, hx3⟩ := hc
  have hk4 := hx3.at ha (Nat.le_of_ble_eq_true rfl)
  exact ga_vret K hr hlk dX14_init_6 rfl
/-- GingerRents$Frost.<init>(II)V -/
noncomputable def x15_init (z : Nat) (sz sl : Nat) (kd : Kd) (P : Ptr) (I : Mem) (a : Nat) (x1 : Int32) (x2 : Int32) : Option (Unit × Sy) := moB sz sl <|
  cal (x13_init_13 z sz sl kd P I a x1 x2) fun u2 sz1 sl1 kd1 P1 I1 =>
  chk (Shp z kd1 ∧ Ext kd kd1) (
  some ((), sz1, sl1, kd1, P1, I1))
theorem wdb_x15_init : yX15_init.cls ≠ "java/lang/invoke/MethodHandle" ∧ yX15_init.cls ≠ "java/lang/invoke/VarHandle" ∧ (parseMethodDescriptor yX15_init.desc).map (fun d => d.parameters.length) = some 2 := by decide
set_option maxRecDepth 100000 in
theorem ct_x15_init {cs : Cs} {z : Nat} (sz sl : Nat) (kd : Kd) (P : Ptr) (I : Mem) (a : Nat) (x1 : Int32) (x2 : Int32) (ha : kd a = (13, 0, 0)) : CtB cs z yX15_init cX15_init 3 none (3) (62) [.ref a, .int x1, .int x2] (sz, sl, kd, P, I) (fun _ => none) (x15_init z sz sl kd P I a x1 x2) := by
  refine CtB.ofM RX15 (by decide) rfl (Nat.le_of_ble_eq_true rfl) ?_
  intro l D p e s m args below meth c hlt hsh K hr hlk hname hK
  refine g_sub (ls' := [(0, .ref a), (1, .int x1), (2, .int x2)]) [0, 1, 2] rfl ?_
  refine g_aloadn K 0 rfl rfl 1 dX15_init_0 rfl ?_
  refine g_iloadn K 1 rfl rfl 2 dX15_init_1 rfl ?_
  refine g_iloadn K 2 rfl rfl 3 dX15_init_2 rfl ?_
  refine gb_callI K hK hsh hlt 6 (ct_x13_init_13 sz sl kd P I a x1 x2 ha) (lw_meth q901) q179 q915 q900 rfl wdb_x13_init (by decide) rfl (Nat.le_of_ble_eq_true rfl) dX15_init_3 rfl (fun u2 sz1 sl1 kd1 P1 I1 _ => ?_)
  try dsimp only
  refine g_chk (fun hc => ?_)
  obtain ⟨hsh, hx3⟩ := hc
  have hk4 := hx3.at ha (Nat.le_of_ble_eq_true rfl)
  exact ga_vret K hr hlk dX15_init_6 rfl
/-- GingerRents$Ice.<init>(III)V -/
noncomputable def x16_init (z : Nat) (sz sl : Nat) (kd : Kd) (P : Ptr) (I : Mem) (a : Nat) (x1 : Int32) (x2 : Int32) (x3 : Int32) : Option (Unit × Sy) := moB sz sl <|
  cal (x13_init_14 z sz sl kd P I a x1 x2) fun u2 sz1 sl1 kd1 P1 I1 =>
  chk (Shp z kd1 ∧ Ext kd kd1) (
  nm (up2 I1 a 2 x3) fun I5 =>
  some ((), sz1, sl1, kd1, P1, I5))
theorem wdb_x16_init : yX16_init.cls ≠ "java/lang/invoke/MethodHandle" ∧ yX16_init.cls ≠ "java/lang/invoke/VarHandle" ∧ (parseMethodDescriptor yX16_init.desc).map (fun d => d.parameters.length) = some 3 := by decide
set_option maxRecDepth 100000 in
theorem ct_x16_init {cs : Cs} {z : Nat} (sz sl : Nat) (kd : Kd) (P : Ptr) (I : Mem) (a : Nat) (x1 : Int32) (x2 : Int32) (x3 : Int32) (ha : kd a = (14, 0, 0)) : CtB cs z yX16_init cX16_init 4 none (3) (62) [.ref a, .int x1, .int x2, .int x3] (sz, sl, kd, P, I) (fun _ => none) (x16_init z sz sl kd P I a x1 x2 x3) := by
  refine CtB.ofM RX16 (by decide) rfl (Nat.le_of_ble_eq_true rfl) ?_
  intro l D p e s m args below meth c hlt hsh K hr hlk hname hK
  refine g_sub (ls' := [(0, .ref a), (1, .int x1), (2, .int x2), (3, .int x3)]) [0, 1, 2, 3] rfl ?_
  refine g_aloadn K 0 rfl rfl 1 dX16_init_0 rfl ?_
  refine g_iloadn K 1 rfl rfl 2 dX16_init_1 rfl ?_
  refine g_iloadn K 2 rfl rfl 3 dX16_init_2 rfl ?_
  refine gb_callI K hK hsh hlt 6 (ct_x13_init_14 sz sl kd P I a x1 x2 ha) (lw_meth q901) q179 q932 q900 rfl wdb_x13_init (by decide) rfl (Nat.le_of_ble_eq_true rfl) dX16_init_3 rfl (fun u2 sz1 sl1 kd1 P1 I1 _ => ?_)
  try dsimp only
  refine g_chk (fun hc => ?_)
  obtain ⟨hsh, hx3⟩ := hc
  have hk4 := hx3.at ha (Nat.le_of_ble_eq_true rfl)
  refine g_aloadn K 0 rfl rfl 7 dX16_init_6 rfl ?_
  refine g_iloadn K 3 rfl rfl 8 dX16_init_7 rfl ?_
  refine ga_putF K hK hsh 2 (ty := .int) 11 in_X16 tyX16 tyX16_ok nmX16 hk4 rfl rfl (Nat.le_of_ble_eq_true rfl) rfl (by decide) q933 rfl hname rfl (by decide +kernel) rfl rfl (Nat.le_of_ble_eq_true rfl) dX16_init_8 rfl (fun I5 _ => ?_)
  exact ga_vret K hr hlk dX16_init_11 rfl
/-- GingerRents$Bake.<init>(IIII)V -/
noncomputable def x17_init (z : Nat) (sz sl : Nat) (kd : Kd) (P : Ptr) (I : Mem) (a : Nat) (x1 : Int32) (x2 : Int32) (x3 : Int32) (x4 : Int32) : Option (Unit × Sy) := moB sz sl <|
  cal (x13_init_15 z sz sl kd P I a x1 x2) fun u2 sz1 sl1 kd1 P1 I1 =>
  chk (Shp z kd1 ∧ Ext kd kd1) (
  nm (up2 I1 a 2 x3) fun I5 =>
  nm (up2 I5 a 3 x4) fun I6 =>
  some ((), sz1, sl1, kd1, P1, I6))
theorem wdb_x17_init : yX17_init.cls ≠ "java/lang/invoke/MethodHandle" ∧ yX17_init.cls ≠ "java/lang/invoke/VarHandle" ∧ (parseMethodDescriptor yX17_init.desc).map (fun d => d.parameters.length) = some 4 := by decide
set_option maxRecDepth 100000 in
theorem ct_x17_init {cs : Cs} {z : Nat} (sz sl : Nat) (kd : Kd) (P : Ptr) (I : Mem) (a : Nat) (x1 : Int32) (x2 : Int32) (x3 : Int32) (x4 : Int32) (ha : kd a = (15, 0, 0)) : CtB cs z yX17_init cX17_init 5 none (3) (62) [.ref a, .int x1, .int x2, .int x3, .int x4] (sz, sl, kd, P, I) (fun _ => none) (x17_init z sz sl kd P I a x1 x2 x3 x4) := by
  refine CtB.ofM RX17 (by decide) rfl (Nat.le_of_ble_eq_true rfl) ?_
  intro l D p e s m args below meth c hlt hsh K hr hlk hname hK
  refine g_sub (ls' := [(0, .ref a), (1, .int x1), (2, .int x2), (3, .int x3), (4, .int x4)]) [0, 1, 2, 3, 4] rfl ?_
  refine g_aloadn K 0 rfl rfl 1 dX17_init_0 rfl ?_
  refine g_iloadn K 1 rfl rfl 2 dX17_init_1 rfl ?_
  refine g_iloadn K 2 rfl rfl 3 dX17_init_2 rfl ?_
  refine gb_callI K hK hsh hlt 6 (ct_x13_init_15 sz sl kd P I a x1 x2 ha) (lw_meth q901) q179 q944 q900 rfl wdb_x13_init (by decide) rfl (Nat.le_of_ble_eq_true rfl) dX17_init_3 rfl (fun u2 sz1 sl1 kd1 P1 I1 _ => ?_)
  try dsimp only
  refine g_chk (fun hc => ?_)
  obtain ⟨hsh, hx3⟩ := hc
  have hk4 := hx3.at ha (Nat.le_of_ble_eq_true rfl)
  refine g_aloadn K 0 rfl rfl 7 dX17_init_6 rfl ?_
  refine g_iloadn K 3 rfl rfl 8 dX17_init_7 rfl ?_
  refine ga_putF K hK hsh 2 (ty := .int) 11 in_X17 tyX17 tyX17_ok nmX17 hk4 rfl rfl (Nat.le_of_ble_eq_true rfl) rfl (by decide) q945 rfl hname rfl (by decide +kernel) rfl rfl (Nat.le_of_ble_eq_true rfl) dX17_init_8 rfl (fun I5 _ => ?_)
  refine g_aloadn K 0 rfl rfl 12 dX17_init_11 rfl ?_
  refine g_iload K 4 rfl 14 dX17_init_12 rfl ?_
  refine ga_putF K hK hsh 3 (ty := .int) 17 in_X17 tyX17 tyX17_ok nmX17 hk4 rfl rfl (Nat.le_of_ble_eq_true rfl) rfl (by decide) q946 rfl hname rfl (by decide +kernel) rfl rfl (Nat.le_of_ble_eq_true rfl) dX17_init_14 rfl (fun I6 _ => ?_)
  exact ga_vret K hr hlk dX17_init_17 rfl
/-- GingerRents$Wedding.<init>(II)V -/
noncomputable def x18_init (z : Nat) (sz sl : Nat) (kd : Kd) (P : Ptr) (I : Mem) (a : Nat) (x1 : Int32) (x2 : Int32) : Option (Unit × Sy) := moB sz sl <|
  cal (x13_init_16 z sz sl kd P I a x1 x2) fun u2 sz1 sl1 kd1 P1 I1 =>
  chk (Shp z kd1 ∧ Ext kd kd1) (
  some ((), sz1, sl1, kd1, P1, I1))
theorem wdb_x18_init : yX18_init.cls ≠ "java/lang/invoke/MethodHandle" ∧ yX18_init.cls ≠ "java/lang/invoke/VarHandle" ∧ (parseMethodDescriptor yX18_init.desc).map (fun d => d.parameters.length) = some 2 := by decide
set_option maxRecDepth 100000 in
theorem ct_x18_init {cs : Cs} {z : Nat} (sz sl : Nat) (kd : Kd) (P : Ptr) (I : Mem) (a : Nat) (x1 : Int32) (x2 : Int32) (ha : kd a = (16, 0, 0)) : CtB cs z yX18_init cX18_init 3 none (3) (62) [.ref a, .int x1, .int x2] (sz, sl, kd, P, I) (fun _ => none) (x18_init z sz sl kd P I a x1 x2) := by
  refine CtB.ofM RX18 (by decide) rfl (Nat.le_of_ble_eq_true rfl) ?_
  intro l D p e s m args below meth c hlt hsh K hr hlk hname hK
  refine g_sub (ls' := [(0, .ref a), (1, .int x1), (2, .int x2)]) [0, 1, 2] rfl ?_
  refine g_aloadn K 0 rfl rfl 1 dX18_init_0 rfl ?_
  refine g_iloadn K 1 rfl rfl 2 dX18_init_1 rfl ?_
  refine g_iloadn K 2 rfl rfl 3 dX18_init_2 rfl ?_
  refine gb_callI K hK hsh hlt 6 (ct_x13_init_16 sz sl kd P I a x1 x2 ha) (lw_meth q901) q179 q959 q900 rfl wdb_x13_init (by decide) rfl (Nat.le_of_ble_eq_true rfl) dX18_init_3 rfl (fun u2 sz1 sl1 kd1 P1 I1 _ => ?_)
  try dsimp only
  refine g_chk (fun hc => ?_)
  obtain ⟨hsh, hx3⟩ := hc
  have hk4 := hx3.at ha (Nat.le_of_ble_eq_true rfl)
  exact ga_vret K hr hlk dX18_init_6 rfl
/-- GingerRents$Razing.<init>(II)V -/
noncomputable def x19_init (z : Nat) (sz sl : Nat) (kd : Kd) (P : Ptr) (I : Mem) (a : Nat) (x1 : Int32) (x2 : Int32) : Option (Unit × Sy) := moB sz sl <|
  cal (x13_init_17 z sz sl kd P I a x1 x2) fun u2 sz1 sl1 kd1 P1 I1 =>
  chk (Shp z kd1 ∧ Ext kd kd1) (
  some ((), sz1, sl1, kd1, P1, I1))
theorem wdb_x19_init : yX19_init.cls ≠ "java/lang/invoke/MethodHandle" ∧ yX19_init.cls ≠ "java/lang/invoke/VarHandle" ∧ (parseMethodDescriptor yX19_init.desc).map (fun d => d.parameters.length) = some 2 := by decide
set_option maxRecDepth 100000 in
theorem ct_x19_init {cs : Cs} {z : Nat} (sz sl : Nat) (kd : Kd) (P : Ptr) (I : Mem) (a : Nat) (x1 : Int32) (x2 : Int32) (ha : kd a = (17, 0, 0)) : CtB cs z yX19_init cX19_init 3 none (3) (62) [.ref a, .int x1, .int x2] (sz, sl, kd, P, I) (fun _ => none) (x19_init z sz sl kd P I a x1 x2) := by
  refine CtB.ofM RX19 (by decide) rfl (Nat.le_of_ble_eq_true rfl) ?_
  intro l D p e s m args below meth c hlt hsh K hr hlk hname hK
  refine g_sub (ls' := [(0, .ref a), (1, .int x1), (2, .int x2)]) [0, 1, 2] rfl ?_
  refine g_aloadn K 0 rfl rfl 1 dX19_init_0 rfl ?_
  refine g_iloadn K 1 rfl rfl 2 dX19_init_1 rfl ?_
  refine g_iloadn K 2 rfl rfl 3 dX19_init_2 rfl ?_
  refine gb_callI K hK hsh hlt 6 (ct_x13_init_17 sz sl kd P I a x1 x2 ha) (lw_meth q901) q179 q968 q900 rfl wdb_x13_init (by decide) rfl (Nat.le_of_ble_eq_true rfl) dX19_init_3 rfl (fun u2 sz1 sl1 kd1 P1 I1 _ => ?_)
  try dsimp only
  refine g_chk (fun hc => ?_)
  obtain ⟨hsh, hx3⟩ := hc
  have hk4 := hx3.at ha (Nat.le_of_ble_eq_true rfl)
  exact ga_vret K hr hlk dX19_init_6 rfl
/-- java/util/AbstractCollection.<init>()V -/
noncomputable def j0_init (z : Nat) (sz sl : Nat) (kd : Kd) (P : Ptr) (I : Mem) (a : Nat) : Option (Unit × Sy) := moB sz sl <|
  some ((), sz, sl, kd, P, I)
theorem wdb_j0_init : yJ0_init.cls ≠ "java/lang/invoke/MethodHandle" ∧ yJ0_init.cls ≠ "java/lang/invoke/VarHandle" ∧ (parseMethodDescriptor yJ0_init.desc).map (fun d => d.parameters.length) = some 0 := by decide
set_option maxRecDepth 100000 in
theorem ct_j0_init {cs : Cs} {z : Nat} (sz sl : Nat) (kd : Kd) (P : Ptr) (I : Mem) (a : Nat) : CtB cs z yJ0_init cJ0_init 1 none (2) (40) [.ref a] (sz, sl, kd, P, I) (fun _ => none) (j0_init z sz sl kd P I a) := by
  refine CtB.ofM RJ0 (by decide) rfl (Nat.le_of_ble_eq_true rfl) ?_
  intro l D p e s m args below meth c hlt hsh K hr hlk hname hK
  refine g_sub (ls' := [(0, .ref a)]) [0] rfl ?_
  refine g_aloadn K 0 rfl rfl 1 dJ0_init_0 rfl ?_
  refine ga_objInit K hK hsh 4 q232 q192 q193 (Nat.le_of_ble_eq_true rfl) (Nat.le_of_ble_eq_true rfl) (Nat.le_of_ble_eq_true rfl) dJ0_init_1 rfl ?_
  exact ga_vret K hr hlk dJ0_init_4 rfl
/-- java/util/AbstractList.<init>()V -/
noncomputable def j1_init (z : Nat) (sz sl : Nat) (kd : Kd) (P : Ptr) (I : Mem) (a : Nat) : Option (Unit × Sy) := moB sz sl <|
  cal (j0_init z sz sl kd P I a) fun u2 sz1 sl1 kd1 P1 I1 =>
  chk (Shp z kd1 ∧ Ext kd kd1) (
  nm (up2 I1 a 0 (nI 0)) fun I5 =>
  some ((), sz1, sl1, kd1, P1, I5))
theorem wdb_j1_init : yJ1_init.cls ≠ "java/lang/invoke/MethodHandle" ∧ yJ1_init.cls ≠ "java/lang/invoke/VarHandle" ∧ (parseMethodDescriptor yJ1_init.desc).map (fun d => d.parameters.length) = some 0 := by decide
set_option maxRecDepth 100000 in
theorem ct_j1_init {cs : Cs} {z : Nat} (sz sl : Nat) (kd : Kd) (P : Ptr) (I : Mem) (a : Nat) (ha : kd a = (18, 0, 0)) : CtB cs z yJ1_init cJ1_init 1 none (3) (60) [.ref a] (sz, sl, kd, P, I) (fun _ => none) (j1_init z sz sl kd P I a) := by
  refine CtB.ofM RJ1 (by decide) rfl (Nat.le_of_ble_eq_true rfl) ?_
  intro l D p e s m args below meth c hlt hsh K hr hlk hname hK
  refine g_sub (ls' := [(0, .ref a)]) [0] rfl ?_
  refine g_aloadn K 0 rfl rfl 1 dJ1_init_0 rfl ?_
  refine gb_callI K hK hsh hlt 4 (ct_j0_init sz sl kd P I a ) (lw_meth q231) q154 q229 q230 rfl wdb_j0_init (by decide) rfl (Nat.le_of_ble_eq_true rfl) dJ1_init_1 rfl (fun u2 sz1 sl1 kd1 P1 I1 _ => ?_)
  try dsimp only
  refine g_chk (fun hc => ?_)
  obtain ⟨hsh, hx3⟩ := hc
  have hk4 := hx3.at ha (Nat.le_of_ble_eq_true rfl)
  refine g_aloadn K 0 rfl rfl 5 dJ1_init_4 rfl ?_
  refine g_iconst K (nI 0) ic_0 6 dJ1_init_5 rfl ?_
  refine gx_put K hK hsh 0 (ty := .int) 9 in_J2 tyJ2 tyJ2_ok nmJ2 hk4 rfl rfl (Nat.le_of_ble_eq_true rfl) rfl (by decide) (Or.inl q237) rfl (by decide +kernel) rfl rfl (Nat.le_of_ble_eq_true rfl) dJ1_init_6 rfl (fun I5 _ => ?_)
  exact ga_vret K hr hlk dJ1_init_9 rfl
/-- java/util/ArrayList.<init>()V -/
noncomputable def j2_init (z : Nat) (em : Nat) (sz sl : Nat) (kd : Kd) (P : Ptr) (I : Mem) (a : Nat) : Option (Unit × Sy) := moB sz sl <|
  cal (j1_init z sz sl kd P I a) fun u2 sz1 sl1 kd1 P1 I1 =>
  chk (Shp z kd1 ∧ Ext kd kd1) (
  nm (upP P1 a 1 (some em)) fun P5 =>
  some ((), sz1, sl1, kd1, P5, I1))
theorem wdb_j2_init : yJ2_init.cls ≠ "java/lang/invoke/MethodHandle" ∧ yJ2_init.cls ≠ "java/lang/invoke/VarHandle" ∧ (parseMethodDescriptor yJ2_init.desc).map (fun d => d.parameters.length) = some 0 := by decide
set_option maxRecDepth 100000 in
theorem ct_j2_init {cs : Cs} {z : Nat} (sz sl : Nat) (kd : Kd) (P : Ptr) (I : Mem) (a : Nat) (ha : kd a = (18, 0, 0)) : CtB cs z yJ2_init cJ2_init 1 none (4) (80) [.ref a] (sz, sl, kd, P, I) (fun _ => none) (j2_init z (cs 300) sz sl kd P I a) := by
  refine CtB.ofM RJ2 (by decide) rfl (Nat.le_of_ble_eq_true rfl) ?_
  intro l D p e s m args below meth c hlt hsh K hr hlk hname hK
  refine g_sub (ls' := [(0, .ref a)]) [0] rfl ?_
  refine g_aloadn K 0 rfl rfl 1 dJ2_init_0 rfl ?_
  refine gb_callI K hK hsh hlt 4 (ct_j1_init sz sl kd P I a ha) (lw_meth q228) q155 q226 q227 rfl wdb_j1_init (by decide) rfl (Nat.le_of_ble_eq_true rfl) dJ2_init_1 rfl (fun u2 sz1 sl1 kd1 P1 I1 _ => ?_)
  try dsimp only
  refine g_chk (fun hc => ?_)
  obtain ⟨hsh, hx3⟩ := hc
  have hk4 := hx3.at ha (Nat.le_of_ble_eq_true rfl)
  refine g_aloadn K 0 rfl rfl 5 dJ2_init_4 rfl ?_
  refine ga_getE K hK 8 q233 dJ2_init_5 rfl ?_
  refine gx_putp K hK hsh 1 (ty := .array (.object "java/lang/Object")) 11 in_J2 tyJ2 tyJ2_ok nmJ2 hk4 rfl rfl (Nat.le_of_ble_eq_true rfl) rfl (by decide) (Or.inl q235) rfl (by decide +kernel) rfl rfl (Nat.le_of_ble_eq_true rfl) dJ2_init_8 rfl (fun P5 _ => ?_)
  exact ga_vret K hr hlk dJ2_init_11 rfl
/-- jdk/internal/util/ArraysSupport.newLength(III)I -/
def j12_newLength (x1 : Int32) (x2 : Int32) (x3 : Int32) : Option Int32 :=
  jn (fun (j1 : Unit) =>
  none) (fun k2 =>
  if (x1 + (imax x2 x3)) ≤ (nI 0) then
  k2 ()
  else
  if (2147483639 : Int32) < (x1 + (imax x2 x3)) then
  k2 ()
  else
  some (x1 + (imax x2 x3)))
theorem wds_j12_newLength : yJ12_newLength.cls ≠ "java/lang/invoke/MethodHandle" ∧ yJ12_newLength.cls ≠ "java/lang/invoke/VarHandle" ∧ (parseMethodDescriptor yJ12_newLength.desc).map (fun d => d.parameters.length) = some 3 := by decide +kernel
set_option maxRecDepth 100000 in
theorem cts_j12_newLength (x1 : Int32) (x2 : Int32) (x3 : Int32) : CtS yJ12_newLength cJ12_newLength 4 (some .int) 1 22 [.int x1, .int x2, .int x3] (fun r => some (.int r)) (j12_newLength x1 x2 x3) := by
  refine CtS.of RJ12 (by decide) rfl (Nat.le_of_ble_eq_true rfl) ?_
  intro l p e s m args below meth c K hr hlk
  refine g_sub (ls' := [(0, .int x1), (1, .int x2), (2, .int x3)]) [0, 1, 2] rfl ?_
  unfold j12_newLength
  refine g_iloadn K 0 rfl rfl 1 dJ12_newLength_0 rfl ?_
  refine g_iloadn K 1 rfl rfl 2 dJ12_newLength_1 rfl ?_
  refine g_iloadn K 2 rfl rfl 3 dJ12_newLength_2 rfl ?_
  refine g_mmax K 6 q838 q839 q159 q840 (by decide) (Nat.le_of_ble_eq_true rfl) dJ12_newLength_3 rfl ?_
  refine g_iadd K 7 dJ12_newLength_6 rfl ?_
  refine g_istoren K [(0, .int x1), (1, .int x2), (3, .int (x1 + (imax x2 x3)))] [1, 2, 0] rfl (by decide) rfl 8 dJ12_newLength_7 rfl ?_
  refine g_iconst K (nI 0) ic_0 9 dJ12_newLength_8 rfl ?_
  refine g_iloadn K 2 rfl rfl 10 dJ12_newLength_9 rfl ?_
  refine g_jn (head := 21) (L := fun j1 => [(0, .int x1), (1, .int x2)]) (sf := fun j1 => []) (mf := fun j1 => ()) (fun j1 => ?_) (fun k2 h3 => ?_)
  · try dsimp only
    refine g_iloadn K 0 rfl rfl 22 dJ12_newLength_21 rfl ?_
    refine g_iloadn K 1 rfl rfl 23 dJ12_newLength_22 rfl ?_
    exact g_none
  · refine g_icmp_ge K 13 21 dJ12_newLength_10 rfl (by decide) (fun _ => ?_) (fun _ => ?_)
    · refine g_sub (ls' := [(0, .int x1), (1, .int x2)]) [0, 1] rfl ?_
      exact h3 ()
    · refine g_iloadn K 2 rfl rfl 14 dJ12_newLength_13 rfl ?_
      refine g_ldc K q841 16 dJ12_newLength_14 rfl ?_
      refine g_icmp_gt K 19 21 dJ12_newLength_16 rfl (by decide) (fun _ => ?_) (fun _ => ?_)
      · refine g_sub (ls' := [(0, .int x1), (1, .int x2)]) [0, 1] rfl ?_
        exact h3 ()
      · refine g_iloadn K 2 rfl rfl 20 dJ12_newLength_19 rfl ?_
        exact gs_iret K hr hlk dJ12_newLength_20 rfl
/-- java/util/Arrays.copyOf([Ljava/lang/Object;ILjava/lang/Class;)[Ljava/lang/Object; -/
noncomputable def j13_copyOf_2 (z : Nat) (sz sl : Nat) (kd : Kd) (P : Ptr) (I : Mem) (x1 len1 inn1 : Nat) (x2 : Int32) : Option (Nat × Sy) := moB sz sl <|
  (alA z kd sz x2).bind fun len2 =>
  nmA (sz + 1) (sl + len2) (upA kd sz (25, len2, 0)) (upA P sz (fun _ => none)) (upA I sz (fun _ => 0)) fun sz4 sl4 kd4 P4 I4 =>
  (cpO kd4 P4 x1 len1 sz len2 (imin (nI len1) x2)).bind fun P6 =>
  some (sz, sz4, sl4, kd4, P6, I4)
theorem wdb_j13_copyOf_2 : yJ13_copyOf_2.cls ≠ "java/lang/invoke/MethodHandle" ∧ yJ13_copyOf_2.cls ≠ "java/lang/invoke/VarHandle" ∧ (parseMethodDescriptor yJ13_copyOf_2.desc).map (fun d => d.parameters.length) = some 3 := by decide
set_option maxRecDepth 100000 in
theorem ct_j13_copyOf_2 {cs : Cs} {z : Nat} (sz sl : Nat) (kd : Kd) (P : Ptr) (I : Mem) (x1 len1 inn1 : Nat) (x2 : Int32) (hx1 : kd x1 = (25, len1, inn1)) : CtB cs z yJ13_copyOf_2 cJ13_copyOf_2 4 (some (.array (.object "java/lang/Object"))) (2) (40) [.ref x1, .int x2, .ref (cs 303)] (sz, sl, kd, P, I) (fun r => some (.ref r)) (j13_copyOf_2 z sz sl kd P I x1 len1 inn1 x2) := by
  refine CtB.ofM RJ13 (by decide) rfl (Nat.le_of_ble_eq_true rfl) ?_
  intro l D p e s m args below meth c hlt hsh K hr hlk hname hK
  refine g_sub (ls' := [(0, .ref x1), (1, .int x2), (2, .ref (cs 303))]) [0, 1, 2] rfl ?_
  refine g_aloadn K 2 rfl rfl 1 dJ13_copyOf_2_0 rfl ?_
  refine ga_ldcM K hK 3 q874 dJ13_copyOf_2_1 rfl ?_
  refine g_acmp_same K 6 dJ13_copyOf_2_3 rfl 13 (by decide) ?_
  refine g_iloadn K 1 rfl rfl 7 dJ13_copyOf_2_6 rfl ?_
  refine ga_newo K hK hsh (ci := 5) (t0 := 5) (k := 25) 10 dJ13_copyOf_2_7 rfl q876 (by unfold aoL; simp) rfl (fun _ _ => rfl) (by show plainK 25; unfold plainK; omega) (fun len2 hl3 hn1 hsh => ?_)
  refine g_nmA (fun sz4 sl4 kd4 P4 I4 _ _ he4 _ _ => ?_)
  replace hsh : Shp z kd4 := by rw [he4]; exact hsh
  have hk5 := kd_keep hn1 he4 (Nat.le_of_ble_eq_true rfl) hx1
  refine g_goto K 24 dJ13_copyOf_2_10 (by decide) ?_
  refine g_astoren K [(0, .ref x1), (1, .int x2), (3, .ref sz)] [1, 2, 0] rfl (by decide) rfl 25 dJ13_copyOf_2_24 rfl ?_
  refine g_aloadn K 0 rfl rfl 26 dJ13_copyOf_2_25 rfl ?_
  refine g_iconst K (nI 0) ic_0 27 dJ13_copyOf_2_26 rfl ?_
  refine g_aloadn K 2 rfl rfl 28 dJ13_copyOf_2_27 rfl ?_
  refine g_iconst K (nI 0) ic_0 29 dJ13_copyOf_2_28 rfl ?_
  refine g_aloadn K 0 rfl rfl 30 dJ13_copyOf_2_29 rfl ?_
  refine ga_leno K hK 31 hk5 dJ13_copyOf_2_30 rfl ?_
  refine g_iloadn K 1 rfl rfl 32 dJ13_copyOf_2_31 rfl ?_
  refine g_mmin K 35 q877 q878 q159 q879 (by decide) (Nat.le_of_ble_eq_true rfl) dJ13_copyOf_2_32 rfl ?_
  refine ga_copy K hK hsh 38 q880 q882 q881 q178 hk5 (kd_new he4) (Nat.le_of_ble_eq_true rfl) (by decide) dJ13_copyOf_2_35 rfl (fun P6 => ?_)
  refine g_aloadn K 2 rfl rfl 39 dJ13_copyOf_2_38 rfl ?_
  exact ga_arret K hr (Or.inr ⟨_, rfl⟩) hlk dJ13_copyOf_2_39 rfl
/-- java/util/Arrays.copyOf([Ljava/lang/Object;I)[Ljava/lang/Object; -/
noncomputable def j13_copyOf (z : Nat) (sz sl : Nat) (kd : Kd) (P : Ptr) (I : Mem) (x1 len1 inn1 : Nat) (x2 : Int32) : Option (Nat × Sy) := moB sz sl <|
  cal (j13_copyOf_2 z sz sl kd P I x1 len1 inn1 x2) fun v2 sz1 sl1 kd1 P1 I1 =>
  chk (Shp z kd1 ∧ Ext kd kd1) (
  some (v2, sz1, sl1, kd1, P1, I1))
theorem wdb_j13_copyOf : yJ13_copyOf.cls ≠ "java/lang/invoke/MethodHandle" ∧ yJ13_copyOf.cls ≠ "java/lang/invoke/VarHandle" ∧ (parseMethodDescriptor yJ13_copyOf.desc).map (fun d => d.parameters.length) = some 2 := by decide
set_option maxRecDepth 100000 in
theorem ct_j13_copyOf {cs : Cs} {z : Nat} (sz sl : Nat) (kd : Kd) (P : Ptr) (I : Mem) (x1 len1 inn1 : Nat) (x2 : Int32) (hx1 : kd x1 = (25, len1, inn1)) : CtB cs z yJ13_copyOf cJ13_copyOf 2 (some (.array (.object "java/lang/Object"))) (3) (63) [.ref x1, .int x2] (sz, sl, kd, P, I) (fun r => some (.ref r)) (j13_copyOf z sz sl kd P I x1 len1 inn1 x2) := by
  refine CtB.ofM RJ13 (by decide) rfl (Nat.le_of_ble_eq_true rfl) ?_
  intro l D p e s m args below meth c hlt hsh K hr hlk hname hK
  refine g_sub (ls' := [(0, .ref x1), (1, .int x2)]) [0, 1] rfl ?_
  refine g_aloadn K 0 rfl rfl 1 dJ13_copyOf_0 rfl ?_
  refine g_iloadn K 1 rfl rfl 2 dJ13_copyOf_1 rfl ?_
  refine g_aloadn K 0 rfl rfl 3 dJ13_copyOf_2 rfl ?_
  refine ga_getC K hK 6 q848 q2280 q849 q870 hx1 (Nat.le_of_ble_eq_true rfl) (Nat.le_of_ble_eq_true rfl) (Nat.le_of_ble_eq_true rfl) dJ13_copyOf_3 rfl ?_
  refine gb_callS K hK hsh hlt 9 (ct_j13_copyOf_2 sz sl kd P I x1 len1 inn1 x2 hx1) (lw_S q871 q872 q177 q873) wdb_j13_copyOf_2 (by decide) rfl (Nat.le_of_ble_eq_true rfl) dJ13_copyOf_6 rfl (fun v2 sz1 sl1 kd1 P1 I1 _ => ?_)
  try dsimp only
  refine g_chk (fun hc => ?_)
  obtain ⟨hsh, hx3⟩ := hc
  have hk4 := hx3.at hx1 (Nat.le_of_ble_eq_true rfl)
  exact ga_arret K hr (Or.inr ⟨_, rfl⟩) hlk dJ13_copyOf_9 rfl
/-- java/util/ArrayList.grow(I)[Ljava/lang/Object; -/
noncomputable def j2_grow_2_e (z : Nat) (em : Nat) (sz sl : Nat) (kd : Kd) (P : Ptr) (I : Mem) (a : Nat) (x1 : Int32) : Option (Nat × Sy) := moB sz sl <|
  chk (P a 1 = some em) (
  jn (fun (j2 : Nat × Nat × Kd × Ptr × Mem) =>
  chk (Shp z j2.2.2.1 ∧ Ext kd j2.2.2.1) (
  (j12_newLength (nI 0) (x1 - (nI 0)) ((nI 0) >>> ((nI 1) &&& 31))).bind fun r7 =>
  chk (j2.2.2.2.1 a 1 = some em) (
  none))) (fun k3 =>
  if 0 < (nI 0) then
  k3 (sz, sl, kd, P, I)
  else
  chk (P a 1 = some em) (
  if em = em then
  (alA z kd sz (imax (nI 10) x1)).bind fun len11 =>
  nmA (sz + 1) (sl + len11) (upA kd sz (25, len11, 0)) (upA P sz (fun _ => none)) (upA I sz (fun _ => 0)) fun sz13 sl13 kd13 P13 I13 =>
  nm (upP P13 a 1 (some sz)) fun P15 =>
  some (sz, sz13, sl13, kd13, P15, I13)
  else
  k3 (sz, sl, kd, P, I))))
theorem wdb_j2_grow_2 : yJ2_grow_2.cls = RJ2 ∧ yJ2_grow_2.cls ≠ "java/lang/invoke/MethodHandle" ∧ yJ2_grow_2.cls ≠ "java/lang/invoke/VarHandle" ∧ (parseMethodDescriptor yJ2_grow_2.desc).map (fun d => d.parameters.length) = some 1 := by decide
set_option maxRecDepth 100000 in
theorem ct_j2_grow_2_e {cs : Cs} {z : Nat} (sz sl : Nat) (kd : Kd) (P : Ptr) (I : Mem) (a : Nat) (x1 : Int32) (ha : kd a = (18, 0, 0)) : CtB cs z yJ2_grow_2 cJ2_grow_2 4 (some (.array (.object "java/lang/Object"))) (4) (84) [.ref a, .int x1] (sz, sl, kd, P, I) (fun r => some (.ref r)) (j2_grow_2_e z (cs 300) sz sl kd P I a x1) := by
  refine CtB.ofM RJ2 (by decide) rfl (Nat.le_of_ble_eq_true rfl) ?_
  intro l D p e s m args below meth c hlt hsh K hr hlk hname hK
  refine g_sub (ls' := [(0, .ref a), (1, .int x1)]) [0, 1] rfl ?_
  refine g_aloadn K 0 rfl rfl 1 dJ2_grow_2_0 rfl ?_
  refine g_chk (fun he1 => ?_)
  refine gx_get K hK hsh 1 (v := .ref (cs 300)) 4 in_J2 ha rfl (Nat.le_of_ble_eq_true rfl) rfl (by decide) (Or.inl q235) (by show some (va_rf (P a 1)) = _; rw [he1]; rfl) dJ2_grow_2_1 rfl ?_
  refine ga_lenE K hK 5 dJ2_grow_2_4 rfl ?_
  refine g_istoren K [(0, .ref a), (1, .int x1), (2, .int (nI 0))] [1, 2, 0] rfl (by decide) rfl 6 dJ2_grow_2_5 rfl ?_
  refine g_iloadn K 2 rfl rfl 7 dJ2_grow_2_6 rfl ?_
  refine gx_of ?_
  refine g_jn (head := 20) (L := fun (j2 : Nat × Nat × Kd × Ptr × Mem) => [(0, .ref a), (1, .int x1), (2, .int (nI 0))]) (sf := fun j2 => []) (mf := fun j2 => (j2.1, j2.2.1, j2.2.2.1, j2.2.2.2.1, j2.2.2.2.2)) (fun j2 => ?_) (fun k3 h4 => ?_)
  · try dsimp only
    refine gy_of ?_
    refine g_chk (fun hc => ?_)
    obtain ⟨hsh, hx5⟩ := hc
    have hk6 := hx5.at ha (Nat.le_of_ble_eq_true rfl)
    refine g_iloadn K 2 rfl rfl 21 dJ2_grow_2_20 rfl ?_
    refine g_iloadn K 1 rfl rfl 22 dJ2_grow_2_21 rfl ?_
    refine g_iloadn K 2 rfl rfl 23 dJ2_grow_2_22 rfl ?_
    refine g_isub K 24 dJ2_grow_2_23 rfl ?_
    refine g_iloadn K 2 rfl rfl 25 dJ2_grow_2_24 rfl ?_
    refine g_iconst K (nI 1) ic_1 26 dJ2_grow_2_25 rfl ?_
    refine g_ishr K 27 dJ2_grow_2_26 rfl ?_
    refine g_callS K 30 (cts_j12_newLength (nI 0) (x1 - (nI 0)) ((nI 0) >>> ((nI 1) &&& 31))) (lw_S q835 q836 q176 q837) wds_j12_newLength (by decide) rfl (Nat.le_of_ble_eq_true rfl) dJ2_grow_2_27 rfl (fun r7 _ => ?_)
    refine g_istoren K [(0, .ref a), (3, .int r7)] [1, 0] rfl (by decide) rfl 31 dJ2_grow_2_30 rfl ?_
    refine g_aloadn K 0 rfl rfl 32 dJ2_grow_2_31 rfl ?_
    refine g_aloadn K 0 rfl rfl 33 dJ2_grow_2_32 rfl ?_
    refine g_chk (fun he8 => ?_)
    refine gx_get K hK hsh 1 (v := .ref (cs 300)) 36 in_J2 hk6 rfl (Nat.le_of_ble_eq_true rfl) rfl (by decide) (Or.inl q235) (by show some (va_rf (j2.2.2.2.1 a 1)) = _; rw [he8]; rfl) dJ2_grow_2_33 rfl ?_
    refine g_iloadn K 1 rfl rfl 37 dJ2_grow_2_36 rfl ?_
    exact g_none
  · refine gy_of ?_
    refine g_if_gt K 10 20 dJ2_grow_2_7 rfl (by decide) (fun _ => ?_) (fun _ => ?_)
    · exact gx_of (h4 (sz, sl, kd, P, I))
    · refine g_aloadn K 0 rfl rfl 11 dJ2_grow_2_10 rfl ?_
      refine g_chk (fun he9 => ?_)
      refine gx_get K hK hsh 1 (v := .ref (cs 300)) 14 in_J2 ha rfl (Nat.le_of_ble_eq_true rfl) rfl (by decide) (Or.inl q235) (by show some (va_rf (P a 1)) = _; rw [he9]; rfl) dJ2_grow_2_11 rfl ?_
      refine ga_getE K hK 17 q233 dJ2_grow_2_14 rfl ?_
      refine g_acmp_eq K 20 45 dJ2_grow_2_17 rfl (by decide) (fun _ => ?_) (fun _ => ?_)
      · refine g_aloadn K 0 rfl rfl 46 dJ2_grow_2_45 rfl ?_
        refine g_bipush K (nI 10) bp_10 48 dJ2_grow_2_46 rfl ?_
        refine g_iloadn K 1 rfl rfl 49 dJ2_grow_2_48 rfl ?_
        refine g_mmax K 52 q883 q839 q159 q840 (by decide) (Nat.le_of_ble_eq_true rfl) dJ2_grow_2_49 rfl ?_
        refine ga_newo K hK hsh (ci := 5) (t0 := 5) (k := 25) 55 dJ2_grow_2_52 rfl q884 (by unfold aoL; simp) rfl (fun _ _ => rfl) (by show plainK 25; unfold plainK; omega) (fun len11 hl12 hn10 hsh => ?_)
        refine g_nmA (fun sz13 sl13 kd13 P13 I13 _ _ he13 _ _ => ?_)
        replace hsh : Shp z kd13 := by rw [he13]; exact hsh
        have hk14 := kd_keep hn10 he13 (Nat.le_of_ble_eq_true rfl) ha
        refine g_dup_x1 K rfl rfl 56 dJ2_grow_2_55 rfl ?_
        refine gx_putp K hK hsh 1 (ty := .array (.object "java/lang/Object")) 59 in_J2 tyJ2 tyJ2_ok nmJ2 hk14 rfl rfl (Nat.le_of_ble_eq_true rfl) rfl (by decide) (Or.inl q235) rfl (by decide +kernel) rfl rfl (Nat.le_of_ble_eq_true rfl) dJ2_grow_2_56 rfl (fun P15 _ => ?_)
        exact ga_arret K hr (Or.inr ⟨_, rfl⟩) hlk dJ2_grow_2_59 rfl
      · exact gx_of (h4 (sz, sl, kd, P, I))
/-- java/util/ArrayList.grow(I)[Ljava/lang/Object; -/
noncomputable def j2_grow_2_f (z : Nat) (em : Nat) (sz sl : Nat) (kd : Kd) (P : Ptr) (I : Mem) (a : Nat) (x1 : Int32) : Option (Nat × Sy) := moB sz sl <|
  (pkk kd (P a 1) 25).bind fun b1 =>
  jn (fun (j3 : Nat × Nat × Kd × Ptr × Mem) =>
  chk (Shp z j3.2.2.1 ∧ Ext kd j3.2.2.1) (
  (j12_newLength (nI (kd b1).2.1) (x1 - (nI (kd b1).2.1)) ((nI (kd b1).2.1) >>> ((nI 1) &&& 31))).bind fun r8 =>
  (pkk j3.2.2.1 (j3.2.2.2.1 a 1) 25).bind fun b9 =>
  cal (j13_copyOf z j3.1 j3.2.1 j3.2.2.1 j3.2.2.2.1 j3.2.2.2.2 b9 (j3.2.2.1 b9).2.1 (j3.2.2.1 b9).2.2 r8) fun v12 sz11 sl11 kd11 P11 I11 =>
  chk (Shp z kd11 ∧ Ext j3.2.2.1 kd11) (
  nm (upP P11 a 1 (some v12)) fun P15 =>
  some (v12, sz11, sl11, kd11, P15, I11)))) (fun k4 =>
  if 0 < (nI (kd b1).2.1) then
  k4 (sz, sl, kd, P, I)
  else
  (pkk kd (P a 1) 25).bind fun b16 =>
  if b16 = em then
  (alA z kd sz (imax (nI 10) x1)).bind fun len19 =>
  nmA (sz + 1) (sl + len19) (upA kd sz (25, len19, 0)) (upA P sz (fun _ => none)) (upA I sz (fun _ => 0)) fun sz21 sl21 kd21 P21 I21 =>
  nm (upP P21 a 1 (some sz)) fun P23 =>
  some (sz, sz21, sl21, kd21, P23, I21)
  else
  k4 (sz, sl, kd, P, I))
set_option maxRecDepth 100000 in
theorem ct_j2_grow_2_f {cs : Cs} {z : Nat} (sz sl : Nat) (kd : Kd) (P : Ptr) (I : Mem) (a : Nat) (x1 : Int32) (ha : kd a = (18, 0, 0)) : CtB cs z yJ2_grow_2 cJ2_grow_2 4 (some (.array (.object "java/lang/Object"))) (4) (84) [.ref a, .int x1] (sz, sl, kd, P, I) (fun r => some (.ref r)) (j2_grow_2_f z (cs 300) sz sl kd P I a x1) := by
  refine CtB.ofM RJ2 (by decide) rfl (Nat.le_of_ble_eq_true rfl) ?_
  intro l D p e s m args below meth c hlt hsh K hr hlk hname hK
  refine g_sub (ls' := [(0, .ref a), (1, .int x1)]) [0, 1] rfl ?_
  refine g_aloadn K 0 rfl rfl 1 dJ2_grow_2_0 rfl ?_
  refine gx_getk K hK hsh 1 25 4 in_J2 ha rfl (Nat.le_of_ble_eq_true rfl) rfl (by decide) (Or.inl q235) rfl dJ2_grow_2_1 rfl (fun b1 hb2 => ?_)
  refine ga_leno K hK 5 hb2 dJ2_grow_2_4 rfl ?_
  refine g_istoren K [(0, .ref a), (1, .int x1), (2, .int (nI (kd b1).2.1))] [1, 2, 0] rfl (by decide) rfl 6 dJ2_grow_2_5 rfl ?_
  refine g_iloadn K 2 rfl rfl 7 dJ2_grow_2_6 rfl ?_
  refine gx_of ?_
  refine g_jn (head := 20) (L := fun (j3 : Nat × Nat × Kd × Ptr × Mem) => [(0, .ref a), (1, .int x1), (2, .int (nI (kd b1).2.1))]) (sf := fun j3 => []) (mf := fun j3 => (j3.1, j3.2.1, j3.2.2.1, j3.2.2.2.1, j3.2.2.2.2)) (fun j3 => ?_) (fun k4 h5 => ?_)
  · try dsimp only
    refine gy_of ?_
    refine g_chk (fun hc => ?_)
    obtain ⟨hsh, hx6⟩ := hc
    have hk7 := hx6.at ha (Nat.le_of_ble_eq_true rfl)
    refine g_iloadn K 2 rfl rfl 21 dJ2_grow_2_20 rfl ?_
    refine g_iloadn K 1 rfl rfl 22 dJ2_grow_2_21 rfl ?_
    refine g_iloadn K 2 rfl rfl 23 dJ2_grow_2_22 rfl ?_
    refine g_isub K 24 dJ2_grow_2_23 rfl ?_
    refine g_iloadn K 2 rfl rfl 25 dJ2_grow_2_24 rfl ?_
    refine g_iconst K (nI 1) ic_1 26 dJ2_grow_2_25 rfl ?_
    refine g_ishr K 27 dJ2_grow_2_26 rfl ?_
    refine g_callS K 30 (cts_j12_newLength (nI (kd b1).2.1) (x1 - (nI (kd b1).2.1)) ((nI (kd b1).2.1) >>> ((nI 1) &&& 31))) (lw_S q835 q836 q176 q837) wds_j12_newLength (by decide) rfl (Nat.le_of_ble_eq_true rfl) dJ2_grow_2_27 rfl (fun r8 _ => ?_)
    refine g_istoren K [(0, .ref a), (3, .int r8)] [1, 0] rfl (by decide) rfl 31 dJ2_grow_2_30 rfl ?_
    refine g_aloadn K 0 rfl rfl 32 dJ2_grow_2_31 rfl ?_
    refine g_aloadn K 0 rfl rfl 33 dJ2_grow_2_32 rfl ?_
    refine gx_getk K hK hsh 1 25 36 in_J2 hk7 rfl (Nat.le_of_ble_eq_true rfl) rfl (by decide) (Or.inl q235) rfl dJ2_grow_2_33 rfl (fun b9 hb10 => ?_)
    refine g_iloadn K 1 rfl rfl 37 dJ2_grow_2_36 rfl ?_
    refine gb_callS K hK hsh hlt 40 (ct_j13_copyOf j3.1 j3.2.1 j3.2.2.1 j3.2.2.2.1 j3.2.2.2.2 b9 (j3.2.2.1 b9).2.1 (j3.2.2.1 b9).2.2 r8 hb10) (lw_S q845 q846 q177 q847) wdb_j13_copyOf (by decide) rfl (Nat.le_of_ble_eq_true rfl) dJ2_grow_2_37 rfl (fun v12 sz11 sl11 kd11 P11 I11 _ => ?_)
    try dsimp only
    refine g_chk (fun hc => ?_)
    obtain ⟨hsh, hx13⟩ := hc
    have hk14 := hx13.at hk7 (Nat.le_of_ble_eq_true rfl)
    refine g_dup_x1 K rfl rfl 41 dJ2_grow_2_40 rfl ?_
    refine gx_putp K hK hsh 1 (ty := .array (.object "java/lang/Object")) 44 in_J2 tyJ2 tyJ2_ok nmJ2 hk14 rfl rfl (Nat.le_of_ble_eq_true rfl) rfl (by decide) (Or.inl q235) rfl (by decide +kernel) rfl rfl (Nat.le_of_ble_eq_true rfl) dJ2_grow_2_41 rfl (fun P15 _ => ?_)
    exact ga_arret K hr (Or.inr ⟨_, rfl⟩) hlk dJ2_grow_2_44 rfl
  · refine gy_of ?_
    refine g_if_gt K 10 20 dJ2_grow_2_7 rfl (by decide) (fun _ => ?_) (fun _ => ?_)
    · exact gx_of (h5 (sz, sl, kd, P, I))
    · refine g_aloadn K 0 rfl rfl 11 dJ2_grow_2_10 rfl ?_
      refine gx_getk K hK hsh 1 25 14 in_J2 ha rfl (Nat.le_of_ble_eq_true rfl) rfl (by decide) (Or.inl q235) rfl dJ2_grow_2_11 rfl (fun b16 hb17 => ?_)
      refine ga_getE K hK 17 q233 dJ2_grow_2_14 rfl ?_
      refine g_acmp_eq K 20 45 dJ2_grow_2_17 rfl (by decide) (fun _ => ?_) (fun _ => ?_)
      · refine g_aloadn K 0 rfl rfl 46 dJ2_grow_2_45 rfl ?_
        refine g_bipush K (nI 10) bp_10 48 dJ2_grow_2_46 rfl ?_
        refine g_iloadn K 1 rfl rfl 49 dJ2_grow_2_48 rfl ?_
        refine g_mmax K 52 q883 q839 q159 q840 (by decide) (Nat.le_of_ble_eq_true rfl) dJ2_grow_2_49 rfl ?_
        refine ga_newo K hK hsh (ci := 5) (t0 := 5) (k := 25) 55 dJ2_grow_2_52 rfl q884 (by unfold aoL; simp) rfl (fun _ _ => rfl) (by show plainK 25; unfold plainK; omega) (fun len19 hl20 hn18 hsh => ?_)
        refine g_nmA (fun sz21 sl21 kd21 P21 I21 _ _ he21 _ _ => ?_)
        replace hsh : Shp z kd21 := by rw [he21]; exact hsh
        have hk22 := kd_keep hn18 he21 (Nat.le_of_ble_eq_true rfl) ha
        refine g_dup_x1 K rfl rfl 56 dJ2_grow_2_55 rfl ?_
        refine gx_putp K hK hsh 1 (ty := .array (.object "java/lang/Object")) 59 in_J2 tyJ2 tyJ2_ok nmJ2 hk22 rfl rfl (Nat.le_of_ble_eq_true rfl) rfl (by decide) (Or.inl q235) rfl (by decide +kernel) rfl rfl (Nat.le_of_ble_eq_true rfl) dJ2_grow_2_56 rfl (fun P23 _ => ?_)
        exact ga_arret K hr (Or.inr ⟨_, rfl⟩) hlk dJ2_grow_2_59 rfl
      · exact gx_of (h5 (sz, sl, kd, P, I))
/-- java/util/ArrayList.grow()[Ljava/lang/Object; -/
noncomputable def j2_grow_e (z : Nat) (em : Nat) (sz sl : Nat) (kd : Kd) (P : Ptr) (I : Mem) (a : Nat) : Option (Nat × Sy) := moB sz sl <|
  cal (j2_grow_2_e z em sz sl kd P I a ((I a 2) + (nI 1))) fun v2 sz1 sl1 kd1 P1 I1 =>
  chk (Shp z kd1 ∧ Ext kd kd1) (
  some (v2, sz1, sl1, kd1, P1, I1))
theorem wdb_j2_grow : yJ2_grow.cls = RJ2 ∧ yJ2_grow.cls ≠ "java/lang/invoke/MethodHandle" ∧ yJ2_grow.cls ≠ "java/lang/invoke/VarHandle" ∧ (parseMethodDescriptor yJ2_grow.desc).map (fun d => d.parameters.length) = some 0 := by decide
set_option maxRecDepth 100000 in
theorem ct_j2_grow_e {cs : Cs} {z : Nat} (sz sl : Nat) (kd : Kd) (P : Ptr) (I : Mem) (a : Nat) (ha : kd a = (18, 0, 0)) : CtB cs z yJ2_grow cJ2_grow 1 (some (.array (.object "java/lang/Object"))) (5) (107) [.ref a] (sz, sl, kd, P, I) (fun r => some (.ref r)) (j2_grow_e z (cs 300) sz sl kd P I a) := by
  refine CtB.ofM RJ2 (by decide) rfl (Nat.le_of_ble_eq_true rfl) ?_
  intro l D p e s m args below meth c hlt hsh K hr hlk hname hK
  refine g_sub (ls' := [(0, .ref a)]) [0] rfl ?_
  refine g_aloadn K 0 rfl rfl 1 dJ2_grow_0 rfl ?_
  refine g_aloadn K 0 rfl rfl 2 dJ2_grow_1 rfl ?_
  refine gx_get K hK hsh 2 (v := .int (I a 2)) 5 in_J2 ha rfl (Nat.le_of_ble_eq_true rfl) rfl (by decide) (Or.inl q236) rfl dJ2_grow_2 rfl ?_
  refine g_iconst K (nI 1) ic_1 6 dJ2_grow_5 rfl ?_
  refine g_iadd K 7 dJ2_grow_6 rfl ?_
  refine gb_callV K hK hsh hlt 10 (ct_j2_grow_2_e sz sl kd P I a ((I a 2) + (nI 1)) ha) (lw_V q831 q833 qs24 q156 q834) wdb_j2_grow_2 ha rfl (Nat.le_of_ble_eq_true rfl) rfl (by decide) rfl (Nat.le_of_ble_eq_true rfl) dJ2_grow_7 rfl (fun v2 sz1 sl1 kd1 P1 I1 _ => ?_)
  try dsimp only
  refine g_chk (fun hc => ?_)
  obtain ⟨hsh, hx3⟩ := hc
  have hk4 := hx3.at ha (Nat.le_of_ble_eq_true rfl)
  exact ga_arret K hr (Or.inr ⟨_, rfl⟩) hlk dJ2_grow_10 rfl
/-- java/util/ArrayList.grow()[Ljava/lang/Object; -/
noncomputable def j2_grow_f (z : Nat) (em : Nat) (sz sl : Nat) (kd : Kd) (P : Ptr) (I : Mem) (a : Nat) : Option (Nat × Sy) := moB sz sl <|
  cal (j2_grow_2_f z em sz sl kd P I a ((I a 2) + (nI 1))) fun v2 sz1 sl1 kd1 P1 I1 =>
  chk (Shp z kd1 ∧ Ext kd kd1) (
  some (v2, sz1, sl1, kd1, P1, I1))
set_option maxRecDepth 100000 in
theorem ct_j2_grow_f {cs : Cs} {z : Nat} (sz sl : Nat) (kd : Kd) (P : Ptr) (I : Mem) (a : Nat) (ha : kd a = (18, 0, 0)) : CtB cs z yJ2_grow cJ2_grow 1 (some (.array (.object "java/lang/Object"))) (5) (107) [.ref a] (sz, sl, kd, P, I) (fun r => some (.ref r)) (j2_grow_f z (cs 300) sz sl kd P I a) := by
  refine CtB.ofM RJ2 (by decide) rfl (Nat.le_of_ble_eq_true rfl) ?_
  intro l D p e s m args below meth c hlt hsh K hr hlk hname hK
  refine g_sub (ls' := [(0, .ref a)]) [0] rfl ?_
  refine g_aloadn K 0 rfl rfl 1 dJ2_grow_0 rfl ?_
  refine g_aloadn K 0 rfl rfl 2 dJ2_grow_1 rfl ?_
  refine gx_get K hK hsh 2 (v := .int (I a 2)) 5 in_J2 ha rfl (Nat.le_of_ble_eq_true rfl) rfl (by decide) (Or.inl q236) rfl dJ2_grow_2 rfl ?_
  refine g_iconst K (nI 1) ic_1 6 dJ2_grow_5 rfl ?_
  refine g_iadd K 7 dJ2_grow_6 rfl ?_
  refine gb_callV K hK hsh hlt 10 (ct_j2_grow_2_f sz sl kd P I a ((I a 2) + (nI 1)) ha) (lw_V q831 q833 qs24 q156 q834) wdb_j2_grow_2 ha rfl (Nat.le_of_ble_eq_true rfl) rfl (by decide) rfl (Nat.le_of_ble_eq_true rfl) dJ2_grow_7 rfl (fun v2 sz1 sl1 kd1 P1 I1 _ => ?_)
  try dsimp only
  refine g_chk (fun hc => ?_)
  obtain ⟨hsh, hx3⟩ := hc
  have hk4 := hx3.at ha (Nat.le_of_ble_eq_true rfl)
  exact ga_arret K hr (Or.inr ⟨_, rfl⟩) hlk dJ2_grow_10 rfl
/-- java/util/ArrayList.add(Ljava/lang/Object;[Ljava/lang/Object;I)V -/
noncomputable def j2_add_2_e (z : Nat) (em : Nat) (sz sl : Nat) (kd : Kd) (P : Ptr) (I : Mem) (a : Nat) (x1 : Nat) (x3 : Int32) : Option (Unit × Sy) := moB sz sl <|
  jn (fun (j1 : Nat × Nat × Nat × Kd × Ptr × Mem) =>
  chk (Shp z j1.2.2.2.1 ∧ Ext kd j1.2.2.2.1) (
  chk ((j1.2.2.2.1 j1.1).1 = 25) <|
  (ckL j1.2.2.2.1 x1).bind fun _ =>
  (wrP j1.2.2.2.2.1 j1.1 (j1.2.2.2.1 j1.1).2.1 x3 x1).bind fun P7 =>
  nm (up2 j1.2.2.2.2.2 a 2 (x3 + (nI 1))) fun I9 =>
  some ((), j1.2.1, j1.2.2.1, j1.2.2.2.1, P7, I9))) (fun k2 =>
  if x3 = (nI 0) then
  cal (j2_grow_e z em sz sl kd P I a) fun v11 sz10 sl10 kd10 P10 I10 =>
  chk (Shp z kd10 ∧ Ext kd kd10) (
  k2 (v11, sz10, sl10, kd10, P10, I10))
  else
  k2 (em, sz, sl, kd, P, I))
theorem wdb_j2_add_2 : yJ2_add_2.cls = RJ2 ∧ yJ2_add_2.cls ≠ "java/lang/invoke/MethodHandle" ∧ yJ2_add_2.cls ≠ "java/lang/invoke/VarHandle" ∧ (parseMethodDescriptor yJ2_add_2.desc).map (fun d => d.parameters.length) = some 3 := by decide
set_option maxRecDepth 100000 in
theorem ct_j2_add_2_e {cs : Cs} {z : Nat} (sz sl : Nat) (kd : Kd) (P : Ptr) (I : Mem) (a : Nat) (x1 : Nat) (x3 : Int32) (ha : kd a = (18, 0, 0)) : CtB cs z yJ2_add_2 cJ2_add_2 4 none (6) (127) [.ref a, .ref x1, .ref (cs 300), .int x3] (sz, sl, kd, P, I) (fun _ => none) (j2_add_2_e z (cs 300) sz sl kd P I a x1 x3) := by
  refine CtB.ofM RJ2 (by decide) rfl (Nat.le_of_ble_eq_true rfl) ?_
  intro l D p e s m args below meth c hlt hsh K hr hlk hname hK
  refine g_sub (ls' := [(0, .ref a), (1, .ref x1), (2, .ref (cs 300)), (3, .int x3)]) [0, 1, 2, 3] rfl ?_
  refine g_iloadn K 3 rfl rfl 1 dJ2_add_2_0 rfl ?_
  refine g_aloadn K 2 rfl rfl 2 dJ2_add_2_1 rfl ?_
  refine ga_lenE K hK 3 dJ2_add_2_2 rfl ?_
  refine gx_of ?_
  refine g_jn (head := 11) (L := fun (j1 : Nat × Nat × Nat × Kd × Ptr × Mem) => [(0, .ref a), (1, .ref x1), (2, .ref j1.1), (3, .int x3)]) (sf := fun j1 => []) (mf := fun j1 => (j1.2.1, j1.2.2.1, j1.2.2.2.1, j1.2.2.2.2.1, j1.2.2.2.2.2)) (fun j1 => ?_) (fun k2 h3 => ?_)
  · try dsimp only
    refine gy_of ?_
    refine g_chk (fun hc => ?_)
    obtain ⟨hsh, hx4⟩ := hc
    have hk5 := hx4.at ha (Nat.le_of_ble_eq_true rfl)
    refine g_aloadn K 2 rfl rfl 12 dJ2_add_2_11 rfl ?_
    refine g_iloadn K 3 rfl rfl 13 dJ2_add_2_12 rfl ?_
    refine g_aloadn K 1 rfl rfl 14 dJ2_add_2_13 rfl ?_
    refine g_chk (fun hq6 => ?_)
    refine gx_ckL (fun hel8 => ?_)
    refine ga_oast K hK hsh 15 (kd25 hq6) hel8 dJ2_add_2_14 rfl (fun P7 => ?_)
    refine g_aloadn K 0 rfl rfl 16 dJ2_add_2_15 rfl ?_
    refine g_iloadn K 3 rfl rfl 17 dJ2_add_2_16 rfl ?_
    refine g_iconst K (nI 1) ic_1 18 dJ2_add_2_17 rfl ?_
    refine g_iadd K 19 dJ2_add_2_18 rfl ?_
    refine gx_put K hK hsh 2 (ty := .int) 22 in_J2 tyJ2 tyJ2_ok nmJ2 hk5 rfl rfl (Nat.le_of_ble_eq_true rfl) rfl (by decide) (Or.inl q236) rfl (by decide +kernel) rfl rfl (Nat.le_of_ble_eq_true rfl) dJ2_add_2_19 rfl (fun I9 _ => ?_)
    exact ga_vret K hr hlk dJ2_add_2_22 rfl
  · refine gy_of ?_
    refine g_icmp_ne K 6 11 dJ2_add_2_3 rfl (by decide) (fun _ => ?_) (fun _ => ?_)
    · refine g_aloadn K 0 rfl rfl 7 dJ2_add_2_6 rfl ?_
      refine gb_callV K hK hsh hlt 10 (ct_j2_grow_e sz sl kd P I a ha) (lw_V q827 q829 qs23 q156 q830) wdb_j2_grow ha rfl (Nat.le_of_ble_eq_true rfl) rfl (by decide) rfl (Nat.le_of_ble_eq_true rfl) dJ2_add_2_7 rfl (fun v11 sz10 sl10 kd10 P10 I10 _ => ?_)
      try dsimp only
      refine g_chk (fun hc => ?_)
      obtain ⟨hsh, hx12⟩ := hc
      have hk13 := hx12.at ha (Nat.le_of_ble_eq_true rfl)
      refine g_astoren K [(0, .ref a), (1, .ref x1), (2, .ref v11), (3, .int x3)] [1, 2, 0, 3] rfl (by decide) rfl 11 dJ2_add_2_10 rfl ?_
      exact gx_of (h3 (v11, sz10, sl10, kd10, P10, I10))
    · exact gx_of (h3 ((cs 300), sz, sl, kd, P, I))
/-- java/util/ArrayList.add(Ljava/lang/Object;[Ljava/lang/Object;I)V -/
noncomputable def j2_add_2_f (z : Nat) (em : Nat) (sz sl : Nat) (kd : Kd) (P : Ptr) (I : Mem) (a : Nat) (x1 : Nat) (x2 len2 inn2 : Nat) (x3 : Int32) : Option (Unit × Sy) := moB sz sl <|
  jn (fun (j1 : Nat × Nat × Nat × Kd × Ptr × Mem) =>
  chk (Shp z j1.2.2.2.1 ∧ Ext kd j1.2.2.2.1) (
  chk ((j1.2.2.2.1 j1.1).1 = 25) <|
  (ckL j1.2.2.2.1 x1).bind fun _ =>
  (wrP j1.2.2.2.2.1 j1.1 (j1.2.2.2.1 j1.1).2.1 x3 x1).bind fun P7 =>
  nm (up2 j1.2.2.2.2.2 a 2 (x3 + (nI 1))) fun I9 =>
  some ((), j1.2.1, j1.2.2.1, j1.2.2.2.1, P7, I9))) (fun k2 =>
  if x3 = (nI len2) then
  cal (j2_grow_f z em sz sl kd P I a) fun v11 sz10 sl10 kd10 P10 I10 =>
  chk (Shp z kd10 ∧ Ext kd kd10) (
  k2 (v11, sz10, sl10, kd10, P10, I10))
  else
  k2 (x2, sz, sl, kd, P, I))
set_option maxRecDepth 100000 in
theorem ct_j2_add_2_f {cs : Cs} {z : Nat} (sz sl : Nat) (kd : Kd) (P : Ptr) (I : Mem) (a : Nat) (x1 : Nat) (x2 len2 inn2 : Nat) (x3 : Int32) (ha : kd a = (18, 0, 0)) (hx2 : kd x2 = (25, len2, inn2)) : CtB cs z yJ2_add_2 cJ2_add_2 4 none (6) (127) [.ref a, .ref x1, .ref x2, .int x3] (sz, sl, kd, P, I) (fun _ => none) (j2_add_2_f z (cs 300) sz sl kd P I a x1 x2 len2 inn2 x3) := by
  refine CtB.ofM RJ2 (by decide) rfl (Nat.le_of_ble_eq_true rfl) ?_
  intro l D p e s m args below meth c hlt hsh K hr hlk hname hK
  refine g_sub (ls' := [(0, .ref a), (1, .ref x1), (2, .ref x2), (3, .int x3)]) [0, 1, 2, 3] rfl ?_
  refine g_iloadn K 3 rfl rfl 1 dJ2_add_2_0 rfl ?_
  refine g_aloadn K 2 rfl rfl 2 dJ2_add_2_1 rfl ?_
  refine ga_leno K hK 3 hx2 dJ2_add_2_2 rfl ?_
  refine gx_of ?_
  refine g_jn (head := 11) (L := fun (j1 : Nat × Nat × Nat × Kd × Ptr × Mem) => [(0, .ref a), (1, .ref x1), (2, .ref j1.1), (3, .int x3)]) (sf := fun j1 => []) (mf := fun j1 => (j1.2.1, j1.2.2.1, j1.2.2.2.1, j1.2.2.2.2.1, j1.2.2.2.2.2)) (fun j1 => ?_) (fun k2 h3 => ?_)
  · try dsimp only
    refine gy_of ?_
    refine g_chk (fun hc => ?_)
    obtain ⟨hsh, hx4⟩ := hc
    have hk5 := hx4.at ha (Nat.le_of_ble_eq_true rfl)
    refine g_aloadn K 2 rfl rfl 12 dJ2_add_2_11 rfl ?_
    refine g_iloadn K 3 rfl rfl 13 dJ2_add_2_12 rfl ?_
    refine g_aloadn K 1 rfl rfl 14 dJ2_add_2_13 rfl ?_
    refine g_chk (fun hq6 => ?_)
    refine gx_ckL (fun hel8 => ?_)
    refine ga_oast K hK hsh 15 (kd25 hq6) hel8 dJ2_add_2_14 rfl (fun P7 => ?_)
    refine g_aloadn K 0 rfl rfl 16 dJ2_add_2_15 rfl ?_
    refine g_iloadn K 3 rfl rfl 17 dJ2_add_2_16 rfl ?_
    refine g_iconst K (nI 1) ic_1 18 dJ2_add_2_17 rfl ?_
    refine g_iadd K 19 dJ2_add_2_18 rfl ?_
    refine gx_put K hK hsh 2 (ty := .int) 22 in_J2 tyJ2 tyJ2_ok nmJ2 hk5 rfl rfl (Nat.le_of_ble_eq_true rfl) rfl (by decide) (Or.inl q236) rfl (by decide +kernel) rfl rfl (Nat.le_of_ble_eq_true rfl) dJ2_add_2_19 rfl (fun I9 _ => ?_)
    exact ga_vret K hr hlk dJ2_add_2_22 rfl
  · refine gy_of ?_
    refine g_icmp_ne K 6 11 dJ2_add_2_3 rfl (by decide) (fun _ => ?_) (fun _ => ?_)
    · refine g_aloadn K 0 rfl rfl 7 dJ2_add_2_6 rfl ?_
      refine gb_callV K hK hsh hlt 10 (ct_j2_grow_f sz sl kd P I a ha) (lw_V q827 q829 qs23 q156 q830) wdb_j2_grow ha rfl (Nat.le_of_ble_eq_true rfl) rfl (by decide) rfl (Nat.le_of_ble_eq_true rfl) dJ2_add_2_7 rfl (fun v11 sz10 sl10 kd10 P10 I10 _ => ?_)
      try dsimp only
      refine g_chk (fun hc => ?_)
      obtain ⟨hsh, hx12⟩ := hc
      have hk13 := hx12.at ha (Nat.le_of_ble_eq_true rfl)
      have hk14 := hx12.at hx2 (Nat.le_of_ble_eq_true rfl)
      refine g_astoren K [(0, .ref a), (1, .ref x1), (2, .ref v11), (3, .int x3)] [1, 2, 0, 3] rfl (by decide) rfl 11 dJ2_add_2_10 rfl ?_
      exact gx_of (h3 (v11, sz10, sl10, kd10, P10, I10))
    · exact gx_of (h3 (x2, sz, sl, kd, P, I))
/-- java/util/ArrayList.add(Ljava/lang/Object;)Z -/
noncomputable def j2_add_e (z : Nat) (em : Nat) (sz sl : Nat) (kd : Kd) (P : Ptr) (I : Mem) (a : Nat) (x1 : Nat) : Option (Bool × Sy) := moB sz sl <|
  nm (up2 I a 0 ((I a 0) + (nI 1))) fun I1 =>
  chk (P a 1 = some em) (
  cal (j2_add_2_e z em sz sl kd P I1 a x1 (I1 a 2)) fun v4 sz3 sl3 kd3 P3 I3 =>
  chk (Shp z kd3 ∧ Ext kd kd3) (
  some (true, sz3, sl3, kd3, P3, I3)))
theorem wdb_j2_add : yJ2_add.cls = RJ2 ∧ yJ2_add.cls ≠ "java/lang/invoke/MethodHandle" ∧ yJ2_add.cls ≠ "java/lang/invoke/VarHandle" ∧ (parseMethodDescriptor yJ2_add.desc).map (fun d => d.parameters.length) = some 1 := by decide
set_option maxRecDepth 100000 in
theorem ct_j2_add_e {cs : Cs} {z : Nat} (sz sl : Nat) (kd : Kd) (P : Ptr) (I : Mem) (a : Nat) (x1 : Nat) (ha : kd a = (18, 0, 0)) : CtB cs z yJ2_add cJ2_add 2 (some .boolean) (7) (150) [.ref a, .ref x1] (sz, sl, kd, P, I) (fun r => some (.int (bI r))) (j2_add_e z (cs 300) sz sl kd P I a x1) := by
  refine CtB.ofM RJ2 (by decide) rfl (Nat.le_of_ble_eq_true rfl) ?_
  intro l D p e s m args below meth c hlt hsh K hr hlk hname hK
  refine g_sub (ls' := [(0, .ref a), (1, .ref x1)]) [0, 1] rfl ?_
  refine g_aloadn K 0 rfl rfl 1 dJ2_add_0 rfl ?_
  refine g_dup K rfl 2 dJ2_add_1 rfl ?_
  refine ga_getM K hK hsh 5 rfl ha dJ2_add_2 rfl ?_
  refine g_iconst K (nI 1) ic_1 6 dJ2_add_5 rfl ?_
  refine g_iadd K 7 dJ2_add_6 rfl ?_
  refine ga_putM K hK hsh 10 rfl ha dJ2_add_7 rfl (fun I1 _ => ?_)
  refine g_aloadn K 0 rfl rfl 11 dJ2_add_10 rfl ?_
  refine g_aloadn K 1 rfl rfl 12 dJ2_add_11 rfl ?_
  refine g_aloadn K 0 rfl rfl 13 dJ2_add_12 rfl ?_
  refine g_chk (fun he2 => ?_)
  refine gx_get K hK hsh 1 (v := .ref (cs 300)) 16 in_J2 ha rfl (Nat.le_of_ble_eq_true rfl) rfl (by decide) (Or.inl q235) (by show some (va_rf (P a 1)) = _; rw [he2]; rfl) dJ2_add_13 rfl ?_
  refine g_aloadn K 0 rfl rfl 17 dJ2_add_16 rfl ?_
  refine gx_get K hK hsh 2 (v := .int (I1 a 2)) 20 in_J2 ha rfl (Nat.le_of_ble_eq_true rfl) rfl (by decide) (Or.inl q236) rfl dJ2_add_17 rfl ?_
  refine gb_callV K hK hsh hlt 23 (ct_j2_add_2_e sz sl kd P I1 a x1 (I1 a 2) ha) (lw_V q823 q825 qs22 q156 q826) wdb_j2_add_2 ha rfl (Nat.le_of_ble_eq_true rfl) rfl (by decide) rfl (Nat.le_of_ble_eq_true rfl) dJ2_add_20 rfl (fun v4 sz3 sl3 kd3 P3 I3 _ => ?_)
  try dsimp only
  refine g_chk (fun hc => ?_)
  obtain ⟨hsh, hx5⟩ := hc
  have hk6 := hx5.at ha (Nat.le_of_ble_eq_true rfl)
  refine g_iconst K (nI 1) ic_1 24 dJ2_add_23 rfl ?_
  exact ga_zret K hr (b := true) hlk dJ2_add_24 rfl rfl
/-- java/util/ArrayList.add(Ljava/lang/Object;)Z -/
noncomputable def j2_add_f (z : Nat) (em : Nat) (sz sl : Nat) (kd : Kd) (P : Ptr) (I : Mem) (a : Nat) (x1 : Nat) : Option (Bool × Sy) := moB sz sl <|
  nm (up2 I a 0 ((I a 0) + (nI 1))) fun I1 =>
  (pkk kd (P a 1) 25).bind fun b2 =>
  cal (j2_add_2_f z em sz sl kd P I1 a x1 b2 (kd b2).2.1 (kd b2).2.2 (I1 a 2)) fun v5 sz4 sl4 kd4 P4 I4 =>
  chk (Shp z kd4 ∧ Ext kd kd4) (
  some (true, sz4, sl4, kd4, P4, I4))
set_option maxRecDepth 100000 in
theorem ct_j2_add_f {cs : Cs} {z : Nat} (sz sl : Nat) (kd : Kd) (P : Ptr) (I : Mem) (a : Nat) (x1 : Nat) (ha : kd a = (18, 0, 0)) : CtB cs z yJ2_add cJ2_add 2 (some .boolean) (7) (150) [.ref a, .ref x1] (sz, sl, kd, P, I) (fun r => some (.int (bI r))) (j2_add_f z (cs 300) sz sl kd P I a x1) := by
  refine CtB.ofM RJ2 (by decide) rfl (Nat.le_of_ble_eq_true rfl) ?_
  intro l D p e s m args below meth c hlt hsh K hr hlk hname hK
  refine g_sub (ls' := [(0, .ref a), (1, .ref x1)]) [0, 1] rfl ?_
  refine g_aloadn K 0 rfl rfl 1 dJ2_add_0 rfl ?_
  refine g_dup K rfl 2 dJ2_add_1 rfl ?_
  refine ga_getM K hK hsh 5 rfl ha dJ2_add_2 rfl ?_
  refine g_iconst K (nI 1) ic_1 6 dJ2_add_5 rfl ?_
  refine g_iadd K 7 dJ2_add_6 rfl ?_
  refine ga_putM K hK hsh 10 rfl ha dJ2_add_7 rfl (fun I1 _ => ?_)
  refine g_aloadn K 0 rfl rfl 11 dJ2_add_10 rfl ?_
  refine g_aloadn K 1 rfl rfl 12 dJ2_add_11 rfl ?_
  refine g_aloadn K 0 rfl rfl 13 dJ2_add_12 rfl ?_
  refine gx_getk K hK hsh 1 25 16 in_J2 ha rfl (Nat.le_of_ble_eq_true rfl) rfl (by decide) (Or.inl q235) rfl dJ2_add_13 rfl (fun b2 hb3 => ?_)
  refine g_aloadn K 0 rfl rfl 17 dJ2_add_16 rfl ?_
  refine gx_get K hK hsh 2 (v := .int (I1 a 2)) 20 in_J2 ha rfl (Nat.le_of_ble_eq_true rfl) rfl (by decide) (Or.inl q236) rfl dJ2_add_17 rfl ?_
  refine gb_callV K hK hsh hlt 23 (ct_j2_add_2_f sz sl kd P I1 a x1 b2 (kd b2).2.1 (kd b2).2.2 (I1 a 2) ha hb3) (lw_V q823 q825 qs22 q156 q826) wdb_j2_add_2 ha rfl (Nat.le_of_ble_eq_true rfl) rfl (by decide) rfl (Nat.le_of_ble_eq_true rfl) dJ2_add_20 rfl (fun v5 sz4 sl4 kd4 P4 I4 _ => ?_)
  try dsimp only
  refine g_chk (fun hc => ?_)
  obtain ⟨hsh, hx6⟩ := hc
  have hk7 := hx6.at ha (Nat.le_of_ble_eq_true rfl)
  refine g_iconst K (nI 1) ic_1 24 dJ2_add_23 rfl ?_
  exact ga_zret K hr (b := true) hlk dJ2_add_24 rfl rfl
noncomputable def j2_addA (z em : Nat) (sz sl : Nat) (kd : Kd) (P : Ptr) (I : Mem) (a x1 : Nat) : Option (Bool × Sy) := @ite _ (P a 1 = some em) (Classical.propDecidable _) (j2_add_e z em sz sl kd P I a x1) (j2_add_f z em sz sl kd P I a x1)
theorem ct_j2_addA {cs : Cs} {z : Nat} (sz sl : Nat) (kd : Kd) (P : Ptr) (I : Mem) (a x1 : Nat) (ha : kd a = (18, 0, 0)) : CtB cs z yJ2_add cJ2_add 2 (some .boolean) (7) (150) [.ref a, .ref x1] (sz, sl, kd, P, I) (fun r => some (.int (bI r))) (j2_addA z (cs 300) sz sl kd P I a x1) := by
  unfold j2_addA
  split
  · exact ct_j2_add_e sz sl kd P I a x1 ha
  · exact ct_j2_add_f sz sl kd P I a x1 ha
