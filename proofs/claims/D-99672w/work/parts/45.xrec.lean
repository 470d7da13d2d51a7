/-- GingerRents.stand(IIII)V, its call of stand open -/
def x0_standB (self : Mem → Int32 → Int32 → Int32 → Int32 → Option (Mem)) (I : Mem) (z : Nat) (x1 x2 x3 x4 : Int32) : Option (Mem) :=
  if x2 = (I (z + 211) 1) then
  if x4 < (I z 16) then
  nm (up2 I z 16 x4) fun I11 =>
  lp (fun again13 (j12 : Int32 × Mem) =>
  if (I (z + 211) 1) ≤ j12.1 then
  some j12.2
  else
  (rd j12.2 (z + 2438) 6 j12.1).bind fun v15 =>
  (wr j12.2 (z + 2439) 6 j12.1 v15).bind fun I16 =>
  again13 ((j12.1 + (nI 1)), I16)) fuel ((nI 0), I11)
  else
  some I
  else
  lp (fun again2 (j1 : Int32 × Mem) =>
  if (I (z + 211) 1) ≤ j1.1 then
  some j1.2
  else
  if ((x1 >>> (j1.1 &&& 31)) &&& (nI 1)) = (nI 1) then
  again2 ((j1.1 + (nI 1)), j1.2)
  else
  (wr j1.2 (z + 2438) 6 x2 j1.1).bind fun I4 =>
  (x2_first I4 (z + 211) 6 j1.1).bind fun r5 =>
  (x2_second I4 (z + 211) 6 j1.1).bind fun r7 =>
  (self I4 (x1 ||| ((nI 1) <<< (j1.1 &&& 31))) (x2 + (nI 1)) (x3 + r5) ((imax (x3 + r5) x4) + r7)).bind fun r9 =>
  again2 ((j1.1 + (nI 1)), r9)) fuel ((nI 0), I)
theorem wd_x0_stand : yX0_stand.cls = RX0 ∧ yX0_stand.cls ≠ "java/lang/invoke/MethodHandle" ∧ yX0_stand.cls ≠ "java/lang/invoke/VarHandle" ∧ (parseMethodDescriptor yX0_stand.desc).map (fun d => d.parameters.length) = some 4 := by decide +kernel
set_option maxRecDepth 100000 in
theorem ctx_x0_standB {cs : Cs} {z : Nat} {kd : Kd} (hz : kd z = (0, 0, 0)) (d : Nat) (self : Mem → Int32 → Int32 → Int32 → Int32 → Option (Mem)) (hself : ∀ (P : Ptr) (I : Mem) (x1 x2 x3 x4 : Int32), CtX cs z kd yX0_stand cX0_stand 8 none (3 + d) (100 + d * 40) [.ref z, .int x1, .int x2, .int x3, .int x4] (P, I) (fun r => (none, (P, r))) (self I x1 x2 x3 x4)) (P : Ptr) (I : Mem) (x1 x2 x3 x4 : Int32) : CtX cs z kd yX0_stand cX0_stand 8 none (3 + (d + 1)) (100 + (d + 1) * 40) [.ref z, .int x1, .int x2, .int x3, .int x4] (P, I) (fun r => (none, (P, r))) (x0_standB self I z x1 x2 x3 x4) := by
  refine CtX.of RX0 (by decide) rfl (Nat.le_of_ble_eq_true rfl) ?_
  intro l D sz p e s m args below meth c hsh K hr hlk hK
  refine g_sub (ls' := [(0, .ref z), (1, .int x1), (2, .int x2), (3, .int x3), (4, .int x4)]) [0, 1, 2, 3, 4] rfl ?_
  unfold x0_standB
  refine g_aloadn K 0 rfl rfl 1 dX0_stand_0 rfl ?_
  refine gx_get K hK hsh 4 (v := .ref (z + 2)) 4 in_X0 hz rfl (Nat.le_of_ble_eq_true rfl) rfl (by decide) (Or.inl q411) rfl dX0_stand_1 rfl ?_
  refine gx_get K hK hsh 7 (v := .ref (z + 211)) 7 in_X1 (sh_0_borough hsh hz) rfl (Nat.le_of_ble_eq_true rfl) rfl (by decide) (Or.inr (nf_q312 hK.2)) rfl dX0_stand_4 rfl ?_
  refine gx_get K hK hsh 1 (v := .int (I (z + 211) 1)) 10 in_X2 (sh_1_loaves hsh (sh_0_borough hsh hz)) rfl (Nat.le_of_ble_eq_true rfl) rfl (by decide) (Or.inr (nf_q213 hK.2)) rfl dX0_stand_7 rfl ?_
  refine g_istore K [(0, .ref z), (1, .int x1), (2, .int x2), (3, .int x3), (4, .int x4), (5, .int (I (z + 211) 1))] [1, 2, 3, 4, 5, 0] (by decide) rfl 12 dX0_stand_10 rfl ?_
  refine g_iloadn K 2 rfl rfl 13 dX0_stand_12 rfl ?_
  refine g_iload K 5 rfl 15 dX0_stand_13 rfl ?_
  refine g_icmp_ne K 18 65 dX0_stand_15 rfl (by decide) (fun _ => ?_) (fun _ => ?_)
  · refine g_iload K 4 rfl 20 dX0_stand_18 rfl ?_
    refine g_aloadn K 0 rfl rfl 21 dX0_stand_20 rfl ?_
    refine gx_get K hK hsh 16 (v := .int (I z 16)) 24 in_X0 hz rfl (Nat.le_of_ble_eq_true rfl) rfl (by decide) (Or.inl q424) rfl dX0_stand_21 rfl ?_
    refine g_icmp_lt K 27 28 dX0_stand_24 rfl (by decide) (fun _ => ?_) (fun _ => ?_)
    · refine g_aloadn K 0 rfl rfl 29 dX0_stand_28 rfl ?_
      refine g_iload K 4 rfl 31 dX0_stand_29 rfl ?_
      refine gx_put K hK hsh 16 (ty := .int) 34 in_X0 tyX0 tyX0_ok nmX0 hz rfl rfl (Nat.le_of_ble_eq_true rfl) rfl (by decide) (Or.inl q424) rfl (by decide +kernel) rfl rfl (Nat.le_of_ble_eq_true rfl) dX0_stand_31 rfl (fun I11 _ => ?_)
      refine g_iconst K (nI 0) ic_0 35 dX0_stand_34 rfl ?_
      refine g_istore K [(0, .ref z), (5, .int (I (z + 211) 1)), (6, .int (nI 0))] [1, 6, 0] (by decide) rfl 37 dX0_stand_35 rfl ?_
      refine g_lp (head := 37) (L := fun j12 => [(0, .ref z), (5, .int (I (z + 211) 1)), (6, .int j12.1)]) (sf := fun j12 => []) (mf := fun j12 => (P, j12.2)) (fun again13 h14 j12 => ?_) fuel ((nI 0), I11)
      try dsimp only
      refine g_iload K 2 rfl 39 dX0_stand_37 rfl ?_
      refine g_iload K 1 rfl 41 dX0_stand_39 rfl ?_
      refine g_icmp_ge K 44 64 dX0_stand_41 rfl (by decide) (fun _ => ?_) (fun _ => ?_)
      · exact gx_vret K hK hsh hr hlk dX0_stand_64 rfl
      · refine g_aloadn K 0 rfl rfl 45 dX0_stand_44 rfl ?_
        refine gx_get K hK hsh 15 (v := .ref (z + 2439)) 48 in_X0 hz rfl (Nat.le_of_ble_eq_true rfl) rfl (by decide) (Or.inl q423) rfl dX0_stand_45 rfl ?_
        refine g_iload K 2 rfl 50 dX0_stand_48 rfl ?_
        refine g_aloadn K 0 rfl rfl 51 dX0_stand_50 rfl ?_
        refine gx_get K hK hsh 14 (v := .ref (z + 2438)) 54 in_X0 hz rfl (Nat.le_of_ble_eq_true rfl) rfl (by decide) (Or.inl q422) rfl dX0_stand_51 rfl ?_
        refine g_iload K 2 rfl 56 dX0_stand_54 rfl ?_
        refine gx_ald K hK hsh 57 (sh_0_order hsh hz) dX0_stand_56 rfl (fun v15 => ?_)
        refine gx_ast K hK hsh 58 (sh_0_bestOrder hsh hz) dX0_stand_57 rfl (fun I16 => ?_)
        refine g_iinc K (j12.1 + (nI 1)) 2 [(0, .ref z), (5, .int (I (z + 211) 1)), (6, .int (j12.1 + (nI 1)))] [1, 2, 0] rfl (by rw [ic_1]) (by decide) rfl 61 dX0_stand_58 rfl ?_
        refine g_goto K 37 dX0_stand_61 (by decide) ?_
        exact h14 ((j12.1 + (nI 1)), I16)
    · exact gx_vret K hK hsh hr hlk dX0_stand_27 rfl
  · refine g_iconst K (nI 0) ic_0 66 dX0_stand_65 rfl ?_
    refine g_istore K [(0, .ref z), (1, .int x1), (2, .int x2), (3, .int x3), (4, .int x4), (5, .int (I (z + 211) 1)), (6, .int (nI 0))] [1, 2, 3, 4, 5, 6, 0] (by decide) rfl 68 dX0_stand_66 rfl ?_
    refine g_lp (head := 68) (L := fun j1 => [(0, .ref z), (1, .int x1), (2, .int x2), (3, .int x3), (4, .int x4), (5, .int (I (z + 211) 1)), (6, .int j1.1)]) (sf := fun j1 => []) (mf := fun j1 => (P, j1.2)) (fun again2 h3 j1 => ?_) fuel ((nI 0), I)
    try dsimp only
    refine g_iload K 6 rfl 70 dX0_stand_68 rfl ?_
    refine g_iload K 5 rfl 72 dX0_stand_70 rfl ?_
    refine g_icmp_ge K 75 153 dX0_stand_72 rfl (by decide) (fun _ => ?_) (fun _ => ?_)
    · exact gx_vret K hK hsh hr hlk dX0_stand_153 rfl
    · refine g_iloadn K 1 rfl rfl 76 dX0_stand_75 rfl ?_
      refine g_iload K 6 rfl 78 dX0_stand_76 rfl ?_
      refine g_ishr K 79 dX0_stand_78 rfl ?_
      refine g_iconst K (nI 1) ic_1 80 dX0_stand_79 rfl ?_
      refine g_iand K 81 dX0_stand_80 rfl ?_
      refine g_iconst K (nI 1) ic_1 82 dX0_stand_81 rfl ?_
      refine g_icmp_ne K 85 88 dX0_stand_82 rfl (by decide) (fun _ => ?_) (fun _ => ?_)
      · refine g_goto K 147 dX0_stand_85 (by decide) ?_
        refine g_iinc K (j1.1 + (nI 1)) 6 [(0, .ref z), (1, .int x1), (2, .int x2), (3, .int x3), (4, .int x4), (5, .int (I (z + 211) 1)), (6, .int (j1.1 + (nI 1)))] [1, 2, 3, 4, 5, 6, 0] rfl (by rw [ic_1]) (by decide) rfl 150 dX0_stand_147 rfl ?_
        refine g_goto K 68 dX0_stand_150 (by decide) ?_
        exact h3 ((j1.1 + (nI 1)), j1.2)
      · refine g_aloadn K 0 rfl rfl 89 dX0_stand_88 rfl ?_
        refine gx_get K hK hsh 14 (v := .ref (z + 2438)) 92 in_X0 hz rfl (Nat.le_of_ble_eq_true rfl) rfl (by decide) (Or.inl q422) rfl dX0_stand_89 rfl ?_
        refine g_iloadn K 2 rfl rfl 93 dX0_stand_92 rfl ?_
        refine g_iload K 6 rfl 95 dX0_stand_93 rfl ?_
        refine gx_ast K hK hsh 96 (sh_0_order hsh hz) dX0_stand_95 rfl (fun I4 => ?_)
        refine g_iloadn K 3 rfl rfl 97 dX0_stand_96 rfl ?_
        refine g_aloadn K 0 rfl rfl 98 dX0_stand_97 rfl ?_
        refine gx_get K hK hsh 4 (v := .ref (z + 2)) 101 in_X0 hz rfl (Nat.le_of_ble_eq_true rfl) rfl (by decide) (Or.inl q411) rfl dX0_stand_98 rfl ?_
        refine gx_get K hK hsh 7 (v := .ref (z + 211)) 104 in_X1 (sh_0_borough hsh hz) rfl (Nat.le_of_ble_eq_true rfl) rfl (by decide) (Or.inr (nf_q312 hK.2)) rfl dX0_stand_101 rfl ?_
        refine g_iload K 6 rfl 106 dX0_stand_104 rfl ?_
        refine gx_call K hK hsh 109 (ctx_x2_first P I4 (z + 211) 6 j1.1 (sh_1_loaves hsh (sh_0_borough hsh hz))) (lw_V q1330 q1331 q1332 q153 q1333) wd_x2_first (sh_1_loaves hsh (sh_0_borough hsh hz)) rfl (Nat.le_of_ble_eq_true rfl) rfl (by omega) rfl (Nat.le_of_ble_eq_true rfl) dX0_stand_106 rfl (fun r5 hr6 => ?_)
        refine g_iadd K 110 dX0_stand_109 rfl ?_
        refine g_istore K [(0, .ref z), (1, .int x1), (2, .int x2), (3, .int x3), (4, .int x4), (5, .int (I (z + 211) 1)), (6, .int j1.1), (7, .int (x3 + r5))] [1, 2, 3, 4, 5, 6, 7, 0] (by decide) rfl 112 dX0_stand_110 rfl ?_
        refine g_aloadn K 0 rfl rfl 113 dX0_stand_112 rfl ?_
        refine g_iloadn K 1 rfl rfl 114 dX0_stand_113 rfl ?_
        refine g_iconst K (nI 1) ic_1 115 dX0_stand_114 rfl ?_
        refine g_iload K 6 rfl 117 dX0_stand_115 rfl ?_
        refine g_ishl K 118 dX0_stand_117 rfl ?_
        refine g_ior K 119 dX0_stand_118 rfl ?_
        refine g_iloadn K 2 rfl rfl 120 dX0_stand_119 rfl ?_
        refine g_iconst K (nI 1) ic_1 121 dX0_stand_120 rfl ?_
        refine g_iadd K 122 dX0_stand_121 rfl ?_
        refine g_iload K 7 rfl 124 dX0_stand_122 rfl ?_
        refine g_iload K 7 rfl 126 dX0_stand_124 rfl ?_
        refine g_iload K 4 rfl 128 dX0_stand_126 rfl ?_
        refine g_mmax K 131 q1220 q839 q159 q840 (by omega) (Nat.le_of_ble_eq_true rfl) dX0_stand_128 rfl ?_
        refine g_aloadn K 0 rfl rfl 132 dX0_stand_131 rfl ?_
        refine gx_get K hK hsh 4 (v := .ref (z + 2)) 135 in_X0 hz rfl (Nat.le_of_ble_eq_true rfl) rfl (by decide) (Or.inl q411) rfl dX0_stand_132 rfl ?_
        refine gx_get K hK hsh 7 (v := .ref (z + 211)) 138 in_X1 (sh_0_borough hsh hz) rfl (Nat.le_of_ble_eq_true rfl) rfl (by decide) (Or.inr (nf_q312 hK.2)) rfl dX0_stand_135 rfl ?_
        refine g_iload K 6 rfl 140 dX0_stand_138 rfl ?_
        refine gx_call K hK hsh 143 (ctx_x2_second P I4 (z + 211) 6 j1.1 (sh_1_loaves hsh (sh_0_borough hsh hz))) (lw_V q1380 q1381 q1382 q153 q1383) wd_x2_second (sh_1_loaves hsh (sh_0_borough hsh hz)) rfl (Nat.le_of_ble_eq_true rfl) rfl (by omega) rfl (Nat.le_of_ble_eq_true rfl) dX0_stand_140 rfl (fun r7 hr8 => ?_)
        refine g_iadd K 144 dX0_stand_143 rfl ?_
        refine gx_call K hK hsh 147 (hself P I4 (x1 ||| ((nI 1) <<< (j1.1 &&& 31))) (x2 + (nI 1)) (x3 + r5) ((imax (x3 + r5) x4) + r7)) (lw_V q1400 q1402 qs48 q151 q1403) wd_x0_stand hz rfl (Nat.le_of_ble_eq_true rfl) rfl (by omega) rfl (Nat.le_of_ble_eq_true rfl) dX0_stand_144 rfl (fun r9 hr10 => ?_)
        refine g_iinc K (j1.1 + (nI 1)) 6 [(0, .ref z), (1, .int x1), (2, .int x2), (3, .int x3), (4, .int x4), (5, .int (I (z + 211) 1)), (6, .int (j1.1 + (nI 1)))] [1, 2, 3, 4, 5, 6, 0] rfl (by rw [ic_1]) (by decide) rfl 150 dX0_stand_147 rfl ?_
        refine g_goto K 68 dX0_stand_150 (by decide) ?_
        exact h3 ((j1.1 + (nI 1)), r9)
/-- stand, so deep at most -/
def x0_stand : Nat → Mem → Nat → Int32 → Int32 → Int32 → Int32 → Option Mem
  | 0, _, _, _, _, _, _ => none
  | d + 1, I, z, x1, x2, x3, x4 => x0_standB (fun I x1 x2 x3 x4 => x0_stand d I z x1 x2 x3 x4) I z x1 x2 x3 x4
theorem ctx_x0_standD {cs : Cs} {z : Nat} {kd : Kd} (hz : kd z = (0, 0, 0)) (d : Nat) : ∀ (P : Ptr) (I : Mem) (x1 x2 x3 x4 : Int32), CtX cs z kd yX0_stand cX0_stand 8 none (3 + d) (100 + d * 40) [.ref z, .int x1, .int x2, .int x3, .int x4] (P, I) (fun r => (none, (P, r))) (x0_stand d I z x1 x2 x3 x4) := by
  induction d with
  | zero => intro P I x1 x2 x3 x4 l D sz hsh out ho; cases ho
  | succ d ih => intro P I x1 x2 x3 x4; exact ctx_x0_standB hz d (fun I x1 x2 x3 x4 => x0_stand d I z x1 x2 x3 x4) ih P I x1 x2 x3 x4
def x0_stand8 (I : Mem) (z : Nat) (x1 x2 x3 x4 : Int32) : Option Mem := x0_stand 8 I z x1 x2 x3 x4
theorem ctx_x0_stand8 {cs : Cs} {z : Nat} {kd : Kd} (P : Ptr) (I : Mem) (x1 x2 x3 x4 : Int32) (hz : kd z = (0, 0, 0)) : CtX cs z kd yX0_stand cX0_stand 8 none 11 420 [.ref z, .int x1, .int x2, .int x3, .int x4] (P, I) (fun r => (none, (P, r))) (x0_stand8 I z x1 x2 x3 x4) := ctx_x0_standD hz 8 P I x1 x2 x3 x4
theorem wd_x0_winning : yX0_winning.cls = RX0 ∧ yX0_winning.cls ≠ "java/lang/invoke/MethodHandle" ∧ yX0_winning.cls ≠ "java/lang/invoke/VarHandle" ∧ (parseMethodDescriptor yX0_winning.desc).map (fun d => d.parameters.length) = some 1 := by decide +kernel
/-- GingerRents.lost(I)Z, its call of winning open -/
def x0_lostB (self : Mem → Int32 → Option (Int32 × Mem)) (I : Mem) (z : Nat) (x1 : Int32) : Option (Bool × Mem) :=
  if x1 = 0 then
  some (false, I)
  else
  (rd I (z + 2462) 16807 x1).bind fun v1 =>
  jn (fun (j2 : Mem) =>
  (rd j2 (z + 2462) 16807 x1).bind fun v5 =>
  if v5 = (nI 1) then
  some (true, j2)
  else
  some (false, j2)) (fun k3 =>
  if v1 = 0 then
  (self I x1).bind fun r6 =>
  jn (fun (j8 : Int32) =>
  (wr r6.2 (z + 2462) 16807 x1 j8).bind fun I11 =>
  k3 I11) (fun k9 =>
  if r6.1 = (-1 : Int32) then
  k9 (nI 1)
  else
  k9 (nI 2))
  else
  k3 I)
theorem wd_x0_lost : yX0_lost.cls = RX0 ∧ yX0_lost.cls ≠ "java/lang/invoke/MethodHandle" ∧ yX0_lost.cls ≠ "java/lang/invoke/VarHandle" ∧ (parseMethodDescriptor yX0_lost.desc).map (fun d => d.parameters.length) = some 1 := by decide +kernel
set_option maxRecDepth 100000 in
theorem ctx_x0_lostB {cs : Cs} {z : Nat} {kd : Kd} (hz : kd z = (0, 0, 0)) (d : Nat) (self : Mem → Int32 → Option (Int32 × Mem)) (hself : ∀ (P : Ptr) (I : Mem) (x1 : Int32), CtX cs z kd yX0_winning cX0_winning 4 (some .int) (3 + d) (100 + d * 40) [.ref z, .int x1] (P, I) (fun r => (some (.int r.1), (P, r.2))) (self I x1)) (P : Ptr) (I : Mem) (x1 : Int32) : CtX cs z kd yX0_lost cX0_lost 2 (some .boolean) (3 + (d + 1)) (100 + (d + 1) * 40) [.ref z, .int x1] (P, I) (fun r => (some (.int (bI r.1)), (P, r.2))) (x0_lostB self I z x1) := by
  refine CtX.of RX0 (by decide) rfl (Nat.le_of_ble_eq_true rfl) ?_
  intro l D sz p e s m args below meth c hsh K hr hlk hK
  refine g_sub (ls' := [(0, .ref z), (1, .int x1)]) [0, 1] rfl ?_
  unfold x0_lostB
  refine g_iloadn K 1 rfl rfl 1 dX0_lost_0 rfl ?_
  refine g_if_ne K 4 6 dX0_lost_1 rfl (by decide) (fun _ => ?_) (fun _ => ?_)
  · refine g_iconst K (nI 0) ic_0 5 dX0_lost_4 rfl ?_
    exact gx_zret K hK hsh hr hlk (b := false) dX0_lost_5 rfl rfl
  · refine g_aloadn K 0 rfl rfl 7 dX0_lost_6 rfl ?_
    refine gx_get K hK hsh 18 (v := .ref (z + 2462)) 10 in_X0 hz rfl (Nat.le_of_ble_eq_true rfl) rfl (by decide) (Or.inl q426) rfl dX0_lost_7 rfl ?_
    refine g_iloadn K 1 rfl rfl 11 dX0_lost_10 rfl ?_
    refine gx_ald K hK hsh 12 (sh_0_isLost hsh hz) dX0_lost_11 rfl (fun v1 => ?_)
    refine g_jn (head := 35) (L := fun j2 => [(0, .ref z), (1, .int x1)]) (sf := fun j2 => []) (mf := fun j2 => (P, j2)) (fun j2 => ?_) (fun k3 h4 => ?_)
    · try dsimp only
      refine g_aloadn K 0 rfl rfl 36 dX0_lost_35 rfl ?_
      refine gx_get K hK hsh 18 (v := .ref (z + 2462)) 39 in_X0 hz rfl (Nat.le_of_ble_eq_true rfl) rfl (by decide) (Or.inl q426) rfl dX0_lost_36 rfl ?_
      refine g_iloadn K 1 rfl rfl 40 dX0_lost_39 rfl ?_
      refine gx_ald K hK hsh 41 (sh_0_isLost hsh hz) dX0_lost_40 rfl (fun v5 => ?_)
      refine g_iconst K (nI 1) ic_1 42 dX0_lost_41 rfl ?_
      refine g_icmp_ne K 45 49 dX0_lost_42 rfl (by decide) (fun _ => ?_) (fun _ => ?_)
      · refine g_iconst K (nI 1) ic_1 46 dX0_lost_45 rfl ?_
        refine g_goto K 50 dX0_lost_46 (by decide) ?_
        exact gx_zret K hK hsh hr hlk (b := true) dX0_lost_50 rfl rfl
      · refine g_iconst K (nI 0) ic_0 50 dX0_lost_49 rfl ?_
        exact gx_zret K hK hsh hr hlk (b := false) dX0_lost_50 rfl rfl
    · refine g_if_ne K 15 35 dX0_lost_12 rfl (by decide) (fun _ => ?_) (fun _ => ?_)
      · refine g_aloadn K 0 rfl rfl 16 dX0_lost_15 rfl ?_
        refine gx_get K hK hsh 18 (v := .ref (z + 2462)) 19 in_X0 hz rfl (Nat.le_of_ble_eq_true rfl) rfl (by decide) (Or.inl q426) rfl dX0_lost_16 rfl ?_
        refine g_iloadn K 1 rfl rfl 20 dX0_lost_19 rfl ?_
        refine g_aloadn K 0 rfl rfl 21 dX0_lost_20 rfl ?_
        refine g_iloadn K 1 rfl rfl 22 dX0_lost_21 rfl ?_
        refine gx_call K hK hsh 25 (hself P I x1) (lw_V q1448 q1450 qs53 q151 q1451) wd_x0_winning hz rfl (Nat.le_of_ble_eq_true rfl) rfl (by omega) rfl (Nat.le_of_ble_eq_true rfl) dX0_lost_22 rfl (fun r6 hr7 => ?_)
        refine g_iconst K (-1 : Int32) ic_m1 26 dX0_lost_25 rfl ?_
        refine g_jn (head := 34) (L := fun j8 => [(0, .ref z), (1, .int x1)]) (sf := fun j8 => [.int j8, .int x1, .ref (z + 2462)]) (mf := fun j8 => (P, r6.2)) (fun j8 => ?_) (fun k9 h10 => ?_)
        · try dsimp only
          refine gx_ast K hK hsh 35 (sh_0_isLost hsh hz) dX0_lost_34 rfl (fun I11 => ?_)
          exact h4 I11
        · refine g_icmp_ne K 29 33 dX0_lost_26 rfl (by decide) (fun _ => ?_) (fun _ => ?_)
          · refine g_iconst K (nI 1) ic_1 30 dX0_lost_29 rfl ?_
            refine g_goto K 34 dX0_lost_30 (by decide) ?_
            exact h10 (nI 1)
          · refine g_iconst K (nI 2) ic_2 34 dX0_lost_33 rfl ?_
            exact h10 (nI 2)
      · exact h4 I
/-- GingerRents.winning(I)I, its call of lost open -/
def x0_winningB (self : Mem → Int32 → Option (Bool × Mem)) (I : Mem) (z : Nat) (x1 : Int32) : Option (Int32 × Mem) :=
  lp (fun again2 (j1 : Int32 × Mem) =>
  if (nI 5) ≤ j1.1 then
  some ((-1 : Int32), j1.2)
  else
  jn (fun (j4 : Int32 × Mem) =>
  some ((((nI 10) * j1.1) + j4.1), j4.2)) (fun k5 =>
  lp (fun again8 (j7 : Int32 × Mem) =>
  (x0_far x1 j1.1).bind fun r10 =>
  if r10 ≤ j7.1 then
  again2 ((j1.1 + (nI 1)), j7.2)
  else
  (x0_bitten x1 j1.1 j7.1).bind fun r11 =>
  (self j7.2 r11).bind fun r12 =>
  if (bI r12.1) = 0 then
  again8 ((j7.1 + (nI 1)), r12.2)
  else
  k5 (j7.1, r12.2)) fuel ((nI 0), j1.2))) fuel ((nI 0), I)
set_option maxRecDepth 100000 in
theorem ctx_x0_winningB {cs : Cs} {z : Nat} {kd : Kd} (hz : kd z = (0, 0, 0)) (d : Nat) (self : Mem → Int32 → Option (Bool × Mem)) (hself : ∀ (P : Ptr) (I : Mem) (x1 : Int32), CtX cs z kd yX0_lost cX0_lost 2 (some .boolean) (3 + d) (100 + d * 40) [.ref z, .int x1] (P, I) (fun r => (some (.int (bI r.1)), (P, r.2))) (self I x1)) (P : Ptr) (I : Mem) (x1 : Int32) : CtX cs z kd yX0_winning cX0_winning 4 (some .int) (3 + (d + 1)) (100 + (d + 1) * 40) [.ref z, .int x1] (P, I) (fun r => (some (.int r.1), (P, r.2))) (x0_winningB self I z x1) := by
  refine CtX.of RX0 (by decide) rfl (Nat.le_of_ble_eq_true rfl) ?_
  intro l D sz p e s m args below meth c hsh K hr hlk hK
  refine g_sub (ls' := [(0, .ref z), (1, .int x1)]) [0, 1] rfl ?_
  unfold x0_winningB
  refine g_iconst K (nI 0) ic_0 1 dX0_winning_0 rfl ?_
  refine g_istoren K [(0, .ref z), (1, .int x1), (2, .int (nI 0))] [1, 2, 0] rfl (by decide) rfl 2 dX0_winning_1 rfl ?_
  refine g_lp (head := 2) (L := fun j1 => [(0, .ref z), (1, .int x1), (2, .int j1.1)]) (sf := fun j1 => []) (mf := fun j1 => (P, j1.2)) (fun again2 h3 j1 => ?_) fuel ((nI 0), I)
  try dsimp only
  refine g_iloadn K 2 rfl rfl 3 dX0_winning_2 rfl ?_
  refine g_iconst K (nI 5) ic_5 4 dX0_winning_3 rfl ?_
  refine g_icmp_ge K 7 50 dX0_winning_4 rfl (by decide) (fun _ => ?_) (fun _ => ?_)
  · refine g_iconst K (-1 : Int32) ic_m1 51 dX0_winning_50 rfl ?_
    exact gx_iret K hK hsh hr hlk dX0_winning_51 rfl
  · refine g_iconst K (nI 0) ic_0 8 dX0_winning_7 rfl ?_
    refine g_istoren K [(0, .ref z), (1, .int x1), (2, .int j1.1), (3, .int (nI 0))] [1, 2, 3, 0] rfl (by decide) rfl 9 dX0_winning_8 rfl ?_
    refine g_jn (head := 31) (L := fun j4 => [(0, .ref z), (2, .int j1.1), (3, .int j4.1)]) (sf := fun j4 => []) (mf := fun j4 => (P, j4.2)) (fun j4 => ?_) (fun k5 h6 => ?_)
    · try dsimp only
      refine g_bipush K (nI 10) bp_10 33 dX0_winning_31 rfl ?_
      refine g_iloadn K 1 rfl rfl 34 dX0_winning_33 rfl ?_
      refine g_imul K 35 dX0_winning_34 rfl ?_
      refine g_iloadn K 2 rfl rfl 36 dX0_winning_35 rfl ?_
      refine g_iadd K 37 dX0_winning_36 rfl ?_
      exact gx_iret K hK hsh hr hlk dX0_winning_37 rfl
    · refine g_lp (head := 9) (L := fun j7 => [(0, .ref z), (1, .int x1), (2, .int j1.1), (3, .int j7.1)]) (sf := fun j7 => []) (mf := fun j7 => (P, j7.2)) (fun again8 h9 j7 => ?_) fuel ((nI 0), j1.2)
      try dsimp only
      refine g_iloadn K 3 rfl rfl 10 dX0_winning_9 rfl ?_
      refine g_iloadn K 1 rfl rfl 11 dX0_winning_10 rfl ?_
      refine g_iloadn K 2 rfl rfl 12 dX0_winning_11 rfl ?_
      refine g_callS K 15 (cts_x0_far x1 j1.1) (lw_S q1452 q1453 q151 q1454) wds_x0_far (by omega) rfl (Nat.le_of_ble_eq_true rfl) dX0_winning_12 rfl (fun r10 _ => ?_)
      refine g_icmp_ge K 18 44 dX0_winning_15 rfl (by decide) (fun _ => ?_) (fun _ => ?_)
      · refine g_iinc K (j1.1 + (nI 1)) 2 [(0, .ref z), (1, .int x1), (2, .int (j1.1 + (nI 1)))] [1, 2, 0] rfl (by rw [ic_1]) (by decide) rfl 47 dX0_winning_44 rfl ?_
        refine g_goto K 2 dX0_winning_47 (by decide) ?_
        exact h3 ((j1.1 + (nI 1)), j7.2)
      · refine g_aloadn K 0 rfl rfl 19 dX0_winning_18 rfl ?_
        refine g_iloadn K 1 rfl rfl 20 dX0_winning_19 rfl ?_
        refine g_iloadn K 2 rfl rfl 21 dX0_winning_20 rfl ?_
        refine g_iloadn K 3 rfl rfl 22 dX0_winning_21 rfl ?_
        refine g_callS K 25 (cts_x0_bitten x1 j1.1 j7.1) (lw_S q1455 q1456 q151 q1457) wds_x0_bitten (by omega) rfl (Nat.le_of_ble_eq_true rfl) dX0_winning_22 rfl (fun r11 _ => ?_)
        refine gx_call K hK hsh 28 (hself P j7.2 r11) (lw_V q1458 q1460 qs54 q151 q1461) wd_x0_lost hz rfl (Nat.le_of_ble_eq_true rfl) rfl (by omega) rfl (Nat.le_of_ble_eq_true rfl) dX0_winning_25 rfl (fun r12 hr13 => ?_)
        refine g_if_eq K 31 38 dX0_winning_28 rfl (by decide) (fun _ => ?_) (fun _ => ?_)
        · refine g_iinc K (j7.1 + (nI 1)) 3 [(0, .ref z), (1, .int x1), (2, .int j1.1), (3, .int (j7.1 + (nI 1)))] [1, 2, 3, 0] rfl (by rw [ic_1]) (by decide) rfl 41 dX0_winning_38 rfl ?_
          refine g_goto K 9 dX0_winning_41 (by decide) ?_
          exact h9 ((j7.1 + (nI 1)), r12.2)
        · refine g_sub (ls' := [(0, .ref z), (2, .int j1.1), (3, .int j7.1)]) [0, 2, 3] rfl ?_
          exact h6 (j7.1, r12.2)
def x0_winning : Nat → Mem → Nat → Int32 → Option (Int32 × Mem)
  | 0, _, _, _ => none
  | d + 1, I, z, x1 => x0_winningB (fun I x1 => x0_lostB (fun I x1 => x0_winning d I z x1) I z x1) I z x1
theorem ctx_x0_winningD {cs : Cs} {z : Nat} {kd : Kd} (hz : kd z = (0, 0, 0)) (d : Nat) : ∀ (P : Ptr) (I : Mem) (x1 : Int32), CtX cs z kd yX0_winning cX0_winning 4 (some .int) (3 + 2 * d) (100 + 2 * d * 40) [.ref z, .int x1] (P, I) (fun r => (some (.int r.1), (P, r.2))) (x0_winning d I z x1) := by
  induction d with
  | zero => intro P I x1 l D sz hsh out ho; cases ho
  | succ d ih => intro P I x1; exact ctx_x0_winningB hz (2 * d + 1) _ (fun P I x1 => ctx_x0_lostB hz (2 * d) _ ih P I x1) P I x1
def x0_winning40 (I : Mem) (z : Nat) (x1 : Int32) : Option (Int32 × Mem) := x0_winning 40 I z x1
theorem ctx_x0_winning40 {cs : Cs} {z : Nat} {kd : Kd} (P : Ptr) (I : Mem) (x1 : Int32) (hz : kd z = (0, 0, 0)) : CtX cs z kd yX0_winning cX0_winning 4 (some .int) 83 3300 [.ref z, .int x1] (P, I) (fun r => (some (.int r.1), (P, r.2))) (x0_winning40 I z x1) := ctx_x0_winningD hz 40 P I x1
/-- GingerRents.ovens(I)I -/
def x0_ovens (I : Mem) (z : Nat) (x1 : Int32) : Option (Int32 × Mem) :=
  jn (fun (j1 : Unit) =>
  nm (up2 I z 16 (1000000 : Int32)) fun I4 =>
  (x0_stand8 I4 z (nI 0) (nI 0) (nI 0) (nI 0)).bind fun r5 =>
  if x1 = 0 then
  some ((r5 z 16), r5)
  else
  (rd r5 (z + 2439) 6 (x1 - (nI 10))).bind fun v7 =>
  some (v7, r5)) (fun k2 =>
  if x1 = 0 then
  k2 ()
  else
  (x0_isIn x1 (nI 10) ((nI 9) + (I (z + 211) 1))).bind fun r8 =>
  if (bI r8) = 0 then
  some ((-1 : Int32), I)
  else
  k2 ())
theorem wd_x0_ovens : yX0_ovens.cls = RX0 ∧ yX0_ovens.cls ≠ "java/lang/invoke/MethodHandle" ∧ yX0_ovens.cls ≠ "java/lang/invoke/VarHandle" ∧ (parseMethodDescriptor yX0_ovens.desc).map (fun d => d.parameters.length) = some 1 := by decide +kernel
set_option maxRecDepth 100000 in
theorem ctx_x0_ovens {cs : Cs} {z : Nat} {kd : Kd} (P : Ptr) (I : Mem) (x1 : Int32) (hz : kd z = (0, 0, 0)) : CtX cs z kd yX0_ovens cX0_ovens 2 (some .int) 12 447 [.ref z, .int x1] (P, I) (fun r => (some (.int r.1), (P, r.2))) (x0_ovens I z x1) := by
  refine CtX.of RX0 (by decide) rfl (Nat.le_of_ble_eq_true rfl) ?_
  intro l D sz p e s m args below meth c hsh K hr hlk hK
  refine g_sub (ls' := [(0, .ref z), (1, .int x1)]) [0, 1] rfl ?_
  unfold x0_ovens
  refine g_iloadn K 1 rfl rfl 1 dX0_ovens_0 rfl ?_
  refine g_jn (head := 28) (L := fun j1 => [(0, .ref z), (1, .int x1)]) (sf := fun j1 => []) (mf := fun j1 => (P, I)) (fun j1 => ?_) (fun k2 h3 => ?_)
  · try dsimp only
    refine g_aloadn K 0 rfl rfl 29 dX0_ovens_28 rfl ?_
    refine g_ldcw K q1292 32 dX0_ovens_29 rfl ?_
    refine gx_put K hK hsh 16 (ty := .int) 35 in_X0 tyX0 tyX0_ok nmX0 hz rfl rfl (Nat.le_of_ble_eq_true rfl) rfl (by decide) (Or.inl q424) rfl (by decide +kernel) rfl rfl (Nat.le_of_ble_eq_true rfl) dX0_ovens_32 rfl (fun I4 _ => ?_)
    refine g_aloadn K 0 rfl rfl 36 dX0_ovens_35 rfl ?_
    refine g_iconst K (nI 0) ic_0 37 dX0_ovens_36 rfl ?_
    refine g_iconst K (nI 0) ic_0 38 dX0_ovens_37 rfl ?_
    refine g_iconst K (nI 0) ic_0 39 dX0_ovens_38 rfl ?_
    refine g_iconst K (nI 0) ic_0 40 dX0_ovens_39 rfl ?_
    refine gx_call K hK hsh 43 (ctx_x0_stand8 P I4 (nI 0) (nI 0) (nI 0) (nI 0) hz) (lw_V q1400 q1402 qs48 q151 q1403) wd_x0_stand hz rfl (Nat.le_of_ble_eq_true rfl) rfl (by decide) rfl (Nat.le_of_ble_eq_true rfl) dX0_ovens_40 rfl (fun r5 hr6 => ?_)
    refine g_iloadn K 1 rfl rfl 44 dX0_ovens_43 rfl ?_
    refine g_if_ne K 47 54 dX0_ovens_44 rfl (by decide) (fun _ => ?_) (fun _ => ?_)
    · refine g_aloadn K 0 rfl rfl 48 dX0_ovens_47 rfl ?_
      refine gx_get K hK hsh 16 (v := .int (r5 z 16)) 51 in_X0 hz rfl (Nat.le_of_ble_eq_true rfl) rfl (by decide) (Or.inl q424) rfl dX0_ovens_48 rfl ?_
      refine g_goto K 63 dX0_ovens_51 (by decide) ?_
      exact gx_iret K hK hsh hr hlk dX0_ovens_63 rfl
    · refine g_aloadn K 0 rfl rfl 55 dX0_ovens_54 rfl ?_
      refine gx_get K hK hsh 15 (v := .ref (z + 2439)) 58 in_X0 hz rfl (Nat.le_of_ble_eq_true rfl) rfl (by decide) (Or.inl q423) rfl dX0_ovens_55 rfl ?_
      refine g_iloadn K 1 rfl rfl 59 dX0_ovens_58 rfl ?_
      refine g_bipush K (nI 10) bp_10 61 dX0_ovens_59 rfl ?_
      refine g_isub K 62 dX0_ovens_61 rfl ?_
      refine gx_ald K hK hsh 63 (sh_0_bestOrder hsh hz) dX0_ovens_62 rfl (fun v7 => ?_)
      exact gx_iret K hK hsh hr hlk dX0_ovens_63 rfl
  · refine g_if_eq K 4 28 dX0_ovens_1 rfl (by decide) (fun _ => ?_) (fun _ => ?_)
    · exact h3 ()
    · refine g_iloadn K 1 rfl rfl 5 dX0_ovens_4 rfl ?_
      refine g_bipush K (nI 10) bp_10 7 dX0_ovens_5 rfl ?_
      refine g_bipush K (nI 9) bp_9 9 dX0_ovens_7 rfl ?_
      refine g_aloadn K 0 rfl rfl 10 dX0_ovens_9 rfl ?_
      refine gx_get K hK hsh 4 (v := .ref (z + 2)) 13 in_X0 hz rfl (Nat.le_of_ble_eq_true rfl) rfl (by decide) (Or.inl q411) rfl dX0_ovens_10 rfl ?_
      refine gx_get K hK hsh 7 (v := .ref (z + 211)) 16 in_X1 (sh_0_borough hsh hz) rfl (Nat.le_of_ble_eq_true rfl) rfl (by decide) (Or.inr (nf_q312 hK.2)) rfl dX0_ovens_13 rfl ?_
      refine gx_get K hK hsh 1 (v := .int (I (z + 211) 1)) 19 in_X2 (sh_1_loaves hsh (sh_0_borough hsh hz)) rfl (Nat.le_of_ble_eq_true rfl) rfl (by decide) (Or.inr (nf_q213 hK.2)) rfl dX0_ovens_16 rfl ?_
      refine g_iadd K 20 dX0_ovens_19 rfl ?_
      refine g_callS K 23 (cts_x0_isIn x1 (nI 10) ((nI 9) + (I (z + 211) 1))) (lw_S q478 q479 q151 q480) wds_x0_isIn (by decide) rfl (Nat.le_of_ble_eq_true rfl) dX0_ovens_20 rfl (fun r8 _ => ?_)
      refine g_if_ne K 26 28 dX0_ovens_23 rfl (by decide) (fun _ => ?_) (fun _ => ?_)
      · refine g_iconst K (-1 : Int32) ic_m1 27 dX0_ovens_26 rfl ?_
        exact gx_iret K hK hsh hr hlk dX0_ovens_27 rfl
      · exact h3 ()
/-- GingerRents.game(II)I -/
def x0_game (I : Mem) (z : Nat) (x1 : Int32) (x2 : Int32) : Option (Int32 × Mem) :=
  (x0_isIn x1 (nI 1) (nI 5)).bind fun r1 =>
  if (bI r1) = 0 then
  some ((-1 : Int32), I)
  else
  (x0_isIn x2 (nI 1) (nI 6)).bind fun r2 =>
  if (bI r2) = 0 then
  some ((-1 : Int32), I)
  else
  jn (fun (j3 : Int32) =>
  (x0_winning40 I z j3).bind fun r6 =>
  some (r6.1, r6.2)) (fun k4 =>
  lp (fun again9 (j8 : Int32 × Int32) =>
  if x1 ≤ j8.2 then
  k4 j8.1
  else
  nm (((nI 7) * j8.1) + x2) fun v11 =>
  again9 (v11, (j8.2 + (nI 1)))) fuel ((nI 0), (nI 0)))
theorem wd_x0_game : yX0_game.cls = RX0 ∧ yX0_game.cls ≠ "java/lang/invoke/MethodHandle" ∧ yX0_game.cls ≠ "java/lang/invoke/VarHandle" ∧ (parseMethodDescriptor yX0_game.desc).map (fun d => d.parameters.length) = some 2 := by decide +kernel
set_option maxRecDepth 100000 in
theorem ctx_x0_game {cs : Cs} {z : Nat} {kd : Kd} (P : Ptr) (I : Mem) (x1 : Int32) (x2 : Int32) (hz : kd z = (0, 0, 0)) : CtX cs z kd yX0_game cX0_game 5 (some .int) 84 3323 [.ref z, .int x1, .int x2] (P, I) (fun r => (some (.int r.1), (P, r.2))) (x0_game I z x1 x2) := by
  refine CtX.of RX0 (by decide) rfl (Nat.le_of_ble_eq_true rfl) ?_
  intro l D sz p e s m args below meth c hsh K hr hlk hK
  refine g_sub (ls' := [(0, .ref z), (1, .int x1), (2, .int x2)]) [0, 1, 2] rfl ?_
  unfold x0_game
  refine g_iloadn K 1 rfl rfl 1 dX0_game_0 rfl ?_
  refine g_iconst K (nI 1) ic_1 2 dX0_game_1 rfl ?_
  refine g_iconst K (nI 5) ic_5 3 dX0_game_2 rfl ?_
  refine g_callS K 6 (cts_x0_isIn x1 (nI 1) (nI 5)) (lw_S q478 q479 q151 q480) wds_x0_isIn (by decide) rfl (Nat.le_of_ble_eq_true rfl) dX0_game_3 rfl (fun r1 _ => ?_)
  refine g_if_eq K 9 19 dX0_game_6 rfl (by decide) (fun _ => ?_) (fun _ => ?_)
  · refine g_iconst K (-1 : Int32) ic_m1 20 dX0_game_19 rfl ?_
    exact gx_iret K hK hsh hr hlk dX0_game_20 rfl
  · refine g_iloadn K 2 rfl rfl 10 dX0_game_9 rfl ?_
    refine g_iconst K (nI 1) ic_1 11 dX0_game_10 rfl ?_
    refine g_bipush K (nI 6) bp_6 13 dX0_game_11 rfl ?_
    refine g_callS K 16 (cts_x0_isIn x2 (nI 1) (nI 6)) (lw_S q478 q479 q151 q480) wds_x0_isIn (by decide) rfl (Nat.le_of_ble_eq_true rfl) dX0_game_13 rfl (fun r2 _ => ?_)
    refine g_if_ne K 19 21 dX0_game_16 rfl (by decide) (fun _ => ?_) (fun _ => ?_)
    · refine g_iconst K (-1 : Int32) ic_m1 20 dX0_game_19 rfl ?_
      exact gx_iret K hK hsh hr hlk dX0_game_20 rfl
    · refine g_iconst K (nI 0) ic_0 22 dX0_game_21 rfl ?_
      refine g_istoren K [(0, .ref z), (1, .int x1), (2, .int x2), (3, .int (nI 0))] [1, 2, 3, 0] rfl (by decide) rfl 23 dX0_game_22 rfl ?_
      refine g_iconst K (nI 0) ic_0 24 dX0_game_23 rfl ?_
      refine g_istore K [(0, .ref z), (1, .int x1), (2, .int x2), (3, .int (nI 0)), (4, .int (nI 0))] [1, 2, 3, 4, 0] (by decide) rfl 26 dX0_game_24 rfl ?_
      refine g_jn (head := 45) (L := fun j3 => [(0, .ref z), (3, .int j3)]) (sf := fun j3 => []) (mf := fun j3 => (P, I)) (fun j3 => ?_) (fun k4 h5 => ?_)
      · try dsimp only
        refine g_aloadn K 0 rfl rfl 46 dX0_game_45 rfl ?_
        refine g_iloadn K 1 rfl rfl 47 dX0_game_46 rfl ?_
        refine gx_call K hK hsh 50 (ctx_x0_winning40 P I j3 hz) (lw_V q1448 q1450 qs53 q151 q1451) wd_x0_winning hz rfl (Nat.le_of_ble_eq_true rfl) rfl (by decide) rfl (Nat.le_of_ble_eq_true rfl) dX0_game_47 rfl (fun r6 hr7 => ?_)
        exact gx_iret K hK hsh hr hlk dX0_game_50 rfl
      · refine g_lp (head := 26) (L := fun j8 => [(0, .ref z), (1, .int x1), (2, .int x2), (3, .int j8.1), (4, .int j8.2)]) (sf := fun j8 => []) (mf := fun j8 => (P, I)) (fun again9 h10 j8 => ?_) fuel ((nI 0), (nI 0))
        try dsimp only
        refine g_iload K 4 rfl 28 dX0_game_26 rfl ?_
        refine g_iloadn K 1 rfl rfl 29 dX0_game_28 rfl ?_
        refine g_icmp_ge K 32 45 dX0_game_29 rfl (by decide) (fun _ => ?_) (fun _ => ?_)
        · refine g_sub (ls' := [(0, .ref z), (3, .int j8.1)]) [0, 3] rfl ?_
          exact h5 j8.1
        · refine g_bipush K (nI 7) bp_7 34 dX0_game_32 rfl ?_
          refine g_iloadn K 3 rfl rfl 35 dX0_game_34 rfl ?_
          refine g_imul K 36 dX0_game_35 rfl ?_
          refine g_iloadn K 2 rfl rfl 37 dX0_game_36 rfl ?_
          refine g_iadd K 38 dX0_game_37 rfl ?_
          refine g_nm (fun v11 _ => ?_)
          refine g_istoren K [(0, .ref z), (1, .int x1), (2, .int x2), (3, .int v11), (4, .int j8.2)] [1, 2, 3, 0, 4] rfl (by decide) rfl 39 dX0_game_38 rfl ?_
          refine g_iinc K (j8.2 + (nI 1)) 4 [(0, .ref z), (1, .int x1), (2, .int x2), (3, .int v11), (4, .int (j8.2 + (nI 1)))] [1, 2, 3, 4, 0] rfl (by rw [ic_1]) (by decide) rfl 42 dX0_game_39 rfl ?_
          refine g_goto K 26 dX0_game_42 (by decide) ?_
          exact h10 (v11, (j8.2 + (nI 1)))
