/-- GingerRents.set(III)Z -/
def x0_set (I : Mem) (z : Nat) (x1 : Int32) (x2 : Int32) (x3 : Int32) : Option (Bool × Mem) :=
  (x0_canSet I z x1 x2 x3).bind fun r1 =>
  if (bI r1) = 0 then
  some (false, I)
  else
  jn (fun (j3 : Mem) =>
  (x0_forgets j3 z).bind fun r6 =>
  some (r6.1, r6.2)) (fun k4 =>
  if x1 = (nI 4) then
  (x0_at I z x2).bind fun r8 =>
  nm (up2 I r8 1 x3) fun I10 =>
  k4 I10
  else
  if x1 = (nI 5) then
  (x0_at I z x2).bind fun r12 =>
  nm (up2 I r12 2 x3) fun I14 =>
  k4 I14
  else
  if x1 = (nI 6) then
  (x0_at I z x2).bind fun r16 =>
  nm (up2 I r16 3 x3) fun I18 =>
  k4 I18
  else
  if x1 = (nI 7) then
  (x0_at I z x2).bind fun r20 =>
  nm (up2 I r20 5 x3) fun I22 =>
  k4 I22
  else
  if x1 = (nI 8) then
  nm (up2 I (z + 2) 15 x3) fun I24 =>
  k4 I24
  else
  (x0_at I z x2).bind fun r26 =>
  (wr I (r26 + 1) 4 x1 x3).bind fun I28 =>
  k4 I28)
theorem wd_x0_set : yX0_set.cls = RX0 ∧ yX0_set.cls ≠ "java/lang/invoke/MethodHandle" ∧ yX0_set.cls ≠ "java/lang/invoke/VarHandle" ∧ (parseMethodDescriptor yX0_set.desc).map (fun d => d.parameters.length) = some 3 := by decide +kernel
set_option maxRecDepth 100000 in
theorem ctx_x0_set {cs : Cs} {z : Nat} {kd : Kd} (P : Ptr) (I : Mem) (x1 : Int32) (x2 : Int32) (x3 : Int32) (hz : kd z = (0, 0, 0)) : CtX cs z kd yX0_set cX0_set 4 (some .boolean) 3 66 [.ref z, .int x1, .int x2, .int x3] (P, I) (fun r => (some (.int (bI r.1)), (P, r.2))) (x0_set I z x1 x2 x3) := by
  refine CtX.of RX0 (by decide) rfl (Nat.le_of_ble_eq_true rfl) ?_
  intro l D sz p e s m args below meth c hsh K hr hlk hK
  refine g_sub (ls' := [(0, .ref z), (1, .int x1), (2, .int x2), (3, .int x3)]) [0, 1, 2, 3] rfl ?_
  unfold x0_set
  refine g_aloadn K 0 rfl rfl 1 dX0_set_0 rfl ?_
  refine g_iloadn K 1 rfl rfl 2 dX0_set_1 rfl ?_
  refine g_iloadn K 2 rfl rfl 3 dX0_set_2 rfl ?_
  refine g_iloadn K 3 rfl rfl 4 dX0_set_3 rfl ?_
  refine gx_call K hK hsh 7 (ctx_x0_canSet P I x1 x2 x3 hz) (lw_V q1016 q1018 qs30 q151 q1019) wd_x0_canSet hz rfl (Nat.le_of_ble_eq_true rfl) rfl (by decide) rfl (Nat.le_of_ble_eq_true rfl) dX0_set_4 rfl (fun r1 hr2 => ?_)
  refine g_if_ne K 10 12 dX0_set_7 rfl (by decide) (fun _ => ?_) (fun _ => ?_)
  · refine g_iconst K (nI 0) ic_0 11 dX0_set_10 rfl ?_
    exact gx_zret K hK hsh hr hlk (b := false) dX0_set_11 rfl rfl
  · refine g_iloadn K 1 rfl rfl 13 dX0_set_12 rfl ?_
    refine g_jn (head := 118) (L := fun j3 => [(0, .ref z)]) (sf := fun j3 => []) (mf := fun j3 => (P, j3)) (fun j3 => ?_) (fun k4 h5 => ?_)
    · try dsimp only
      refine g_aloadn K 0 rfl rfl 119 dX0_set_118 rfl ?_
      refine gx_call K hK hsh 122 (ctx_x0_forgets P j3 hz) (lw_V q972 q974 qs28 q151 q975) wd_x0_forgets hz rfl (Nat.le_of_ble_eq_true rfl) rfl (by decide) rfl (Nat.le_of_ble_eq_true rfl) dX0_set_119 rfl (fun r6 hr7 => ?_)
      exact gx_zret K hK hsh hr hlk (b := r6.1) dX0_set_122 rfl rfl
    · refine g_tcase K (nI 4) 48 dX0_set_13 (by decide) (by decide) rfl (by decide) (fun _ => ?_) (fun hx11 => ?_)
      · refine g_aloadn K 0 rfl rfl 49 dX0_set_48 rfl ?_
        refine g_iloadn K 2 rfl rfl 50 dX0_set_49 rfl ?_
        refine gx_call K hK hsh 53 (ctx_x0_at P I x2 hz) (lw_V q1004 q1006 qs29 q151 q1007) wd_x0_at hz rfl (Nat.le_of_ble_eq_true rfl) rfl (by decide) rfl (Nat.le_of_ble_eq_true rfl) dX0_set_50 rfl (fun r8 hr9 => ?_)
        refine g_iloadn K 3 rfl rfl 54 dX0_set_53 rfl ?_
        refine gx_put K hK hsh 1 (ty := .int) 57 in_X3 tyX3 tyX3_ok nmX3 (at_kd hsh hz hr9) rfl rfl (Nat.le_of_ble_eq_true rfl) rfl (by decide) (Or.inr (nf_q257 hK.2)) rfl (by decide +kernel) rfl rfl (Nat.le_of_ble_eq_true rfl) dX0_set_54 rfl (fun I10 _ => ?_)
        refine g_goto K 118 dX0_set_57 (by decide) ?_
        refine g_sub (ls' := [(0, .ref z)]) [0] rfl ?_
        exact h5 I10
      · refine g_tcase K (nI 5) 60 dX0_set_13 (by decide) (by decide) rfl (by decide) (fun _ => ?_) (fun hx15 => ?_)
        · refine g_aloadn K 0 rfl rfl 61 dX0_set_60 rfl ?_
          refine g_iloadn K 2 rfl rfl 62 dX0_set_61 rfl ?_
          refine gx_call K hK hsh 65 (ctx_x0_at P I x2 hz) (lw_V q1004 q1006 qs29 q151 q1007) wd_x0_at hz rfl (Nat.le_of_ble_eq_true rfl) rfl (by decide) rfl (Nat.le_of_ble_eq_true rfl) dX0_set_62 rfl (fun r12 hr13 => ?_)
          refine g_iloadn K 3 rfl rfl 66 dX0_set_65 rfl ?_
          refine gx_put K hK hsh 2 (ty := .int) 69 in_X3 tyX3 tyX3_ok nmX3 (at_kd hsh hz hr13) rfl rfl (Nat.le_of_ble_eq_true rfl) rfl (by decide) (Or.inr (nf_q260 hK.2)) rfl (by decide +kernel) rfl rfl (Nat.le_of_ble_eq_true rfl) dX0_set_66 rfl (fun I14 _ => ?_)
          refine g_goto K 118 dX0_set_69 (by decide) ?_
          refine g_sub (ls' := [(0, .ref z)]) [0] rfl ?_
          exact h5 I14
        · refine g_tcase K (nI 6) 72 dX0_set_13 (by decide) (by decide) rfl (by decide) (fun _ => ?_) (fun hx19 => ?_)
          · refine g_aloadn K 0 rfl rfl 73 dX0_set_72 rfl ?_
            refine g_iloadn K 2 rfl rfl 74 dX0_set_73 rfl ?_
            refine gx_call K hK hsh 77 (ctx_x0_at P I x2 hz) (lw_V q1004 q1006 qs29 q151 q1007) wd_x0_at hz rfl (Nat.le_of_ble_eq_true rfl) rfl (by decide) rfl (Nat.le_of_ble_eq_true rfl) dX0_set_74 rfl (fun r16 hr17 => ?_)
            refine g_iloadn K 3 rfl rfl 78 dX0_set_77 rfl ?_
            refine gx_put K hK hsh 3 (ty := .int) 81 in_X3 tyX3 tyX3_ok nmX3 (at_kd hsh hz hr17) rfl rfl (Nat.le_of_ble_eq_true rfl) rfl (by decide) (Or.inr (nf_q263 hK.2)) rfl (by decide +kernel) rfl rfl (Nat.le_of_ble_eq_true rfl) dX0_set_78 rfl (fun I18 _ => ?_)
            refine g_goto K 118 dX0_set_81 (by decide) ?_
            refine g_sub (ls' := [(0, .ref z)]) [0] rfl ?_
            exact h5 I18
          · refine g_tcase K (nI 7) 84 dX0_set_13 (by decide) (by decide) rfl (by decide) (fun _ => ?_) (fun hx23 => ?_)
            · refine g_aloadn K 0 rfl rfl 85 dX0_set_84 rfl ?_
              refine g_iloadn K 2 rfl rfl 86 dX0_set_85 rfl ?_
              refine gx_call K hK hsh 89 (ctx_x0_at P I x2 hz) (lw_V q1004 q1006 qs29 q151 q1007) wd_x0_at hz rfl (Nat.le_of_ble_eq_true rfl) rfl (by decide) rfl (Nat.le_of_ble_eq_true rfl) dX0_set_86 rfl (fun r20 hr21 => ?_)
              refine g_iloadn K 3 rfl rfl 90 dX0_set_89 rfl ?_
              refine gx_put K hK hsh 5 (ty := .int) 93 in_X3 tyX3 tyX3_ok nmX3 (at_kd hsh hz hr21) rfl rfl (Nat.le_of_ble_eq_true rfl) rfl (by decide) (Or.inr (nf_q270 hK.2)) rfl (by decide +kernel) rfl rfl (Nat.le_of_ble_eq_true rfl) dX0_set_90 rfl (fun I22 _ => ?_)
              refine g_goto K 118 dX0_set_93 (by decide) ?_
              refine g_sub (ls' := [(0, .ref z)]) [0] rfl ?_
              exact h5 I22
            · refine g_tcase K (nI 8) 96 dX0_set_13 (by decide) (by decide) rfl (by decide) (fun _ => ?_) (fun hx25 => ?_)
              · refine g_aloadn K 0 rfl rfl 97 dX0_set_96 rfl ?_
                refine gx_get K hK hsh 4 (v := .ref (z + 2)) 100 in_X0 hz rfl (Nat.le_of_ble_eq_true rfl) rfl (by decide) (Or.inl q411) rfl dX0_set_97 rfl ?_
                refine g_iloadn K 3 rfl rfl 101 dX0_set_100 rfl ?_
                refine gx_put K hK hsh 15 (ty := .int) 104 in_X1 tyX1 tyX1_ok nmX1 (sh_0_borough hsh hz) rfl rfl (Nat.le_of_ble_eq_true rfl) rfl (by decide) (Or.inr (nf_q330 hK.2)) rfl (by decide +kernel) rfl rfl (Nat.le_of_ble_eq_true rfl) dX0_set_101 rfl (fun I24 _ => ?_)
                refine g_goto K 118 dX0_set_104 (by decide) ?_
                refine g_sub (ls' := [(0, .ref z)]) [0] rfl ?_
                exact h5 I24
              · refine g_tdef K 107 dX0_set_13 (by have := tne (k := 4) (by decide) hx11; have := tne (k := 5) (by decide) hx15; have := tne (k := 6) (by decide) hx19; have := tne (k := 7) (by decide) hx23; have := tne (k := 8) (by decide) hx25; omega) (by decide) ?_
                refine g_aloadn K 0 rfl rfl 108 dX0_set_107 rfl ?_
                refine g_iloadn K 2 rfl rfl 109 dX0_set_108 rfl ?_
                refine gx_call K hK hsh 112 (ctx_x0_at P I x2 hz) (lw_V q1004 q1006 qs29 q151 q1007) wd_x0_at hz rfl (Nat.le_of_ble_eq_true rfl) rfl (by decide) rfl (Nat.le_of_ble_eq_true rfl) dX0_set_109 rfl (fun r26 hr27 => ?_)
                refine gx_get K hK hsh 0 (v := .ref (r26 + 1)) 115 in_X3 (at_kd hsh hz hr27) rfl (Nat.le_of_ble_eq_true rfl) rfl (by decide) (Or.inr (nf_q254 hK.2)) rfl dX0_set_112 rfl ?_
                refine g_iloadn K 1 rfl rfl 116 dX0_set_115 rfl ?_
                refine g_iloadn K 3 rfl rfl 117 dX0_set_116 rfl ?_
                refine gx_ast K hK hsh 118 (sh_3_wall hsh (at_kd hsh hz hr27)) dX0_set_117 rfl (fun I28 => ?_)
                refine g_sub (ls' := [(0, .ref z)]) [0] rfl ?_
                exact h5 I28
/-- GingerRents.canAct(III)Z -/
def x0_canAct (I : Mem) (z : Nat) (x1 : Int32) (x2 : Int32) (x3 : Int32) : Option (Bool) :=
  (x0_isIn x1 (nI 0) (nI 3)).bind fun r1 =>
  if (bI r1) = 0 then
  (x0_isIn x1 (nI 10) (nI 13)).bind fun r2 =>
  if (bI r2) = 0 then
  if x1 = (nI 20) then
  (x1_canWed I (z + 2) x2).bind fun r3 =>
  some r3
  else
  if x1 = (nI 21) then
  (x0_isHouse I z x3).bind fun r6 =>
  if (bI r6) = 0 then
  some false
  else
  if x3 = x2 then
  some false
  else
  (x0_at I z x3).bind fun r8 =>
  (x3_stands I r8).bind fun r10 =>
  if (bI r10) = 0 then
  some false
  else
  (x0_at I z x2).bind fun r12 =>
  if (I r12 5) ≤ 0 then
  some false
  else
  some true
  else
  if x1 = (nI 22) then
  (x0_at I z x2).bind fun r15 =>
  (x3_stands I r15).bind fun r17 =>
  if (bI r17) = 0 then
  some false
  else
  some true
  else
  some false
  else
  (x0_isIn x3 (nI 1) (nI 99)).bind fun r19 =>
  some r19
  else
  (x0_at I z x2).bind fun r20 =>
  (rd I (r20 + 1) 4 x1).bind fun v22 =>
  (x0_isIn x3 (nI 1) v22).bind fun r23 =>
  some r23
theorem wd_x0_canAct : yX0_canAct.cls = RX0 ∧ yX0_canAct.cls ≠ "java/lang/invoke/MethodHandle" ∧ yX0_canAct.cls ≠ "java/lang/invoke/VarHandle" ∧ (parseMethodDescriptor yX0_canAct.desc).map (fun d => d.parameters.length) = some 3 := by decide +kernel
set_option maxRecDepth 100000 in
theorem ctx_x0_canAct {cs : Cs} {z : Nat} {kd : Kd} (P : Ptr) (I : Mem) (x1 : Int32) (x2 : Int32) (x3 : Int32) (hz : kd z = (0, 0, 0)) : CtX cs z kd yX0_canAct cX0_canAct 4 (some .boolean) 3 66 [.ref z, .int x1, .int x2, .int x3] (P, I) (fun r => (some (.int (bI r)), (P, I))) (x0_canAct I z x1 x2 x3) := by
  refine CtX.of RX0 (by decide) rfl (Nat.le_of_ble_eq_true rfl) ?_
  intro l D sz p e s m args below meth c hsh K hr hlk hK
  refine g_sub (ls' := [(0, .ref z), (1, .int x1), (2, .int x2), (3, .int x3)]) [0, 1, 2, 3] rfl ?_
  unfold x0_canAct
  refine g_iloadn K 1 rfl rfl 1 dX0_canAct_0 rfl ?_
  refine g_iconst K (nI 0) ic_0 2 dX0_canAct_1 rfl ?_
  refine g_iconst K (nI 3) ic_3 3 dX0_canAct_2 rfl ?_
  refine g_callS K 6 (cts_x0_isIn x1 (nI 0) (nI 3)) (lw_S q478 q479 q151 q480) wds_x0_isIn (by decide) rfl (Nat.le_of_ble_eq_true rfl) dX0_canAct_3 rfl (fun r1 _ => ?_)
  refine g_if_eq K 9 25 dX0_canAct_6 rfl (by decide) (fun _ => ?_) (fun _ => ?_)
  · refine g_iloadn K 1 rfl rfl 26 dX0_canAct_25 rfl ?_
    refine g_bipush K (nI 10) bp_10 28 dX0_canAct_26 rfl ?_
    refine g_bipush K (nI 13) bp_13 30 dX0_canAct_28 rfl ?_
    refine g_callS K 33 (cts_x0_isIn x1 (nI 10) (nI 13)) (lw_S q478 q479 q151 q480) wds_x0_isIn (by decide) rfl (Nat.le_of_ble_eq_true rfl) dX0_canAct_30 rfl (fun r2 _ => ?_)
    refine g_if_eq K 36 44 dX0_canAct_33 rfl (by decide) (fun _ => ?_) (fun _ => ?_)
    · refine g_iloadn K 1 rfl rfl 45 dX0_canAct_44 rfl ?_
      refine g_lcase K (nI 20) (off := 27) 72 dX0_canAct_45 (by decide) (by decide) (by decide) (fun _ => ?_) (fun hx5 => ?_)
      · refine g_aloadn K 0 rfl rfl 73 dX0_canAct_72 rfl ?_
        refine gx_get K hK hsh 4 (v := .ref (z + 2)) 76 in_X0 hz rfl (Nat.le_of_ble_eq_true rfl) rfl (by decide) (Or.inl q411) rfl dX0_canAct_73 rfl ?_
        refine g_iloadn K 2 rfl rfl 77 dX0_canAct_76 rfl ?_
        refine gx_call K hK hsh 80 (ctx_x1_canWed P I (z + 2) x2 (sh_0_borough hsh hz)) (lw_V q1032 q1033 q1034 q152 q1035) wd_x1_canWed (sh_0_borough hsh hz) rfl (Nat.le_of_ble_eq_true rfl) rfl (by decide) rfl (Nat.le_of_ble_eq_true rfl) dX0_canAct_77 rfl (fun r3 hr4 => ?_)
        exact gx_zret K hK hsh hr hlk (b := r3) dX0_canAct_80 rfl rfl
      · refine g_lcase K (nI 21) (off := 36) 81 dX0_canAct_45 (by decide) (by decide) (by decide) (fun _ => ?_) (fun hx14 => ?_)
        · refine g_aloadn K 0 rfl rfl 82 dX0_canAct_81 rfl ?_
          refine g_iloadn K 3 rfl rfl 83 dX0_canAct_82 rfl ?_
          refine gx_call K hK hsh 86 (ctx_x0_isHouse P I x3 hz) (lw_V q1020 q1022 qs31 q151 q1023) wd_x0_isHouse hz rfl (Nat.le_of_ble_eq_true rfl) rfl (by decide) rfl (Nat.le_of_ble_eq_true rfl) dX0_canAct_83 rfl (fun r6 hr7 => ?_)
          refine g_if_eq K 89 120 dX0_canAct_86 rfl (by decide) (fun _ => ?_) (fun _ => ?_)
          · refine g_iconst K (nI 0) ic_0 121 dX0_canAct_120 rfl ?_
            exact gx_zret K hK hsh hr hlk (b := false) dX0_canAct_121 rfl rfl
          · refine g_iloadn K 3 rfl rfl 90 dX0_canAct_89 rfl ?_
            refine g_iloadn K 2 rfl rfl 91 dX0_canAct_90 rfl ?_
            refine g_icmp_eq K 94 120 dX0_canAct_91 rfl (by decide) (fun _ => ?_) (fun _ => ?_)
            · refine g_iconst K (nI 0) ic_0 121 dX0_canAct_120 rfl ?_
              exact gx_zret K hK hsh hr hlk (b := false) dX0_canAct_121 rfl rfl
            · refine g_aloadn K 0 rfl rfl 95 dX0_canAct_94 rfl ?_
              refine g_iloadn K 3 rfl rfl 96 dX0_canAct_95 rfl ?_
              refine gx_call K hK hsh 99 (ctx_x0_at P I x3 hz) (lw_V q1004 q1006 qs29 q151 q1007) wd_x0_at hz rfl (Nat.le_of_ble_eq_true rfl) rfl (by decide) rfl (Nat.le_of_ble_eq_true rfl) dX0_canAct_96 rfl (fun r8 hr9 => ?_)
              refine gx_call K hK hsh 102 (ctx_x3_stands P I r8 (at_kd hsh hz hr9)) (lw_V q1044 q1037 q1038 q157 q1039) wd_x3_stands (at_kd hsh hz hr9) rfl (Nat.le_of_ble_eq_true rfl) rfl (by decide) rfl (Nat.le_of_ble_eq_true rfl) dX0_canAct_99 rfl (fun r10 hr11 => ?_)
              refine g_if_eq K 105 120 dX0_canAct_102 rfl (by decide) (fun _ => ?_) (fun _ => ?_)
              · refine g_iconst K (nI 0) ic_0 121 dX0_canAct_120 rfl ?_
                exact gx_zret K hK hsh hr hlk (b := false) dX0_canAct_121 rfl rfl
              · refine g_aloadn K 0 rfl rfl 106 dX0_canAct_105 rfl ?_
                refine g_iloadn K 2 rfl rfl 107 dX0_canAct_106 rfl ?_
                refine gx_call K hK hsh 110 (ctx_x0_at P I x2 hz) (lw_V q1004 q1006 qs29 q151 q1007) wd_x0_at hz rfl (Nat.le_of_ble_eq_true rfl) rfl (by decide) rfl (Nat.le_of_ble_eq_true rfl) dX0_canAct_107 rfl (fun r12 hr13 => ?_)
                refine gx_get K hK hsh 5 (v := .int (I r12 5)) 113 in_X3 (at_kd hsh hz hr13) rfl (Nat.le_of_ble_eq_true rfl) rfl (by decide) (Or.inr (nf_q270 hK.2)) rfl dX0_canAct_110 rfl ?_
                refine g_if_le K 116 120 dX0_canAct_113 rfl (by decide) (fun _ => ?_) (fun _ => ?_)
                · refine g_iconst K (nI 0) ic_0 121 dX0_canAct_120 rfl ?_
                  exact gx_zret K hK hsh hr hlk (b := false) dX0_canAct_121 rfl rfl
                · refine g_iconst K (nI 1) ic_1 117 dX0_canAct_116 rfl ?_
                  refine g_goto K 121 dX0_canAct_117 (by decide) ?_
                  exact gx_zret K hK hsh hr hlk (b := true) dX0_canAct_121 rfl rfl
        · refine g_ldef K 122 dX0_canAct_45 (by decide) (by have e20 := tne (k := 20) (by decide) hx5; have e21 := tne (k := 21) (by decide) hx14; simp [Op.lookupswitch.offset, List.find?]; omega) (by decide) ?_
          refine g_iloadn K 1 rfl rfl 123 dX0_canAct_122 rfl ?_
          refine g_bipush K (nI 22) bp_22 125 dX0_canAct_123 rfl ?_
          refine g_icmp_ne K 128 143 dX0_canAct_125 rfl (by decide) (fun _ => ?_) (fun _ => ?_)
          · refine g_aloadn K 0 rfl rfl 129 dX0_canAct_128 rfl ?_
            refine g_iloadn K 2 rfl rfl 130 dX0_canAct_129 rfl ?_
            refine gx_call K hK hsh 133 (ctx_x0_at P I x2 hz) (lw_V q1004 q1006 qs29 q151 q1007) wd_x0_at hz rfl (Nat.le_of_ble_eq_true rfl) rfl (by decide) rfl (Nat.le_of_ble_eq_true rfl) dX0_canAct_130 rfl (fun r15 hr16 => ?_)
            refine gx_call K hK hsh 136 (ctx_x3_stands P I r15 (at_kd hsh hz hr16)) (lw_V q1044 q1037 q1038 q157 q1039) wd_x3_stands (at_kd hsh hz hr16) rfl (Nat.le_of_ble_eq_true rfl) rfl (by decide) rfl (Nat.le_of_ble_eq_true rfl) dX0_canAct_133 rfl (fun r17 hr18 => ?_)
            refine g_if_eq K 139 143 dX0_canAct_136 rfl (by decide) (fun _ => ?_) (fun _ => ?_)
            · refine g_iconst K (nI 0) ic_0 144 dX0_canAct_143 rfl ?_
              exact gx_zret K hK hsh hr hlk (b := false) dX0_canAct_144 rfl rfl
            · refine g_iconst K (nI 1) ic_1 140 dX0_canAct_139 rfl ?_
              refine g_goto K 144 dX0_canAct_140 (by decide) ?_
              exact gx_zret K hK hsh hr hlk (b := true) dX0_canAct_144 rfl rfl
          · refine g_iconst K (nI 0) ic_0 144 dX0_canAct_143 rfl ?_
            exact gx_zret K hK hsh hr hlk (b := false) dX0_canAct_144 rfl rfl
    · refine g_iloadn K 3 rfl rfl 37 dX0_canAct_36 rfl ?_
      refine g_iconst K (nI 1) ic_1 38 dX0_canAct_37 rfl ?_
      refine g_bipush K (nI 99) bp_99 40 dX0_canAct_38 rfl ?_
      refine g_callS K 43 (cts_x0_isIn x3 (nI 1) (nI 99)) (lw_S q478 q479 q151 q480) wds_x0_isIn (by decide) rfl (Nat.le_of_ble_eq_true rfl) dX0_canAct_40 rfl (fun r19 _ => ?_)
      exact gx_zret K hK hsh hr hlk (b := r19) dX0_canAct_43 rfl rfl
  · refine g_iloadn K 3 rfl rfl 10 dX0_canAct_9 rfl ?_
    refine g_iconst K (nI 1) ic_1 11 dX0_canAct_10 rfl ?_
    refine g_aloadn K 0 rfl rfl 12 dX0_canAct_11 rfl ?_
    refine g_iloadn K 2 rfl rfl 13 dX0_canAct_12 rfl ?_
    refine gx_call K hK hsh 16 (ctx_x0_at P I x2 hz) (lw_V q1004 q1006 qs29 q151 q1007) wd_x0_at hz rfl (Nat.le_of_ble_eq_true rfl) rfl (by decide) rfl (Nat.le_of_ble_eq_true rfl) dX0_canAct_13 rfl (fun r20 hr21 => ?_)
    refine gx_get K hK hsh 0 (v := .ref (r20 + 1)) 19 in_X3 (at_kd hsh hz hr21) rfl (Nat.le_of_ble_eq_true rfl) rfl (by decide) (Or.inr (nf_q254 hK.2)) rfl dX0_canAct_16 rfl ?_
    refine g_iloadn K 1 rfl rfl 20 dX0_canAct_19 rfl ?_
    refine gx_ald K hK hsh 21 (sh_3_wall hsh (at_kd hsh hz hr21)) dX0_canAct_20 rfl (fun v22 => ?_)
    refine g_callS K 24 (cts_x0_isIn x3 (nI 1) v22) (lw_S q478 q479 q151 q480) wds_x0_isIn (by decide) rfl (Nat.le_of_ble_eq_true rfl) dX0_canAct_21 rfl (fun r23 _ => ?_)
    exact gx_zret K hK hsh hr hlk (b := r23) dX0_canAct_24 rfl rfl
/-- GingerRents.remembers()V -/
def x0_remembers (kd : Kd) (P : Ptr) (I : Mem) (z : Nat) : Option (Ptr × Mem) :=
  jn (fun (j1 : Ptr × Mem) =>
  (pix kd j1.1 (z + 809) 6 (j1.2 z 8) (1, 0, 0)).bind fun b4 =>
  (x1_moves j1.2 b4 (z + 2)).bind fun r6 =>
  nm (up2 r6 z 8 ((r6 z 8) + (nI 1))) fun I8 =>
  some (j1.1, I8)) (fun k2 =>
  if (I z 8) = (nI 6) then
  (pix kd P (z + 809) 6 (nI 0) (1, 0, 0)).bind fun b9 =>
  jn (fun (j11 : Ptr) =>
  (wrP j11 (z + 809) 6 (nI 5) b9).bind fun P14 =>
  nm (up2 I z 8 ((I z 8) - (nI 1))) fun I15 =>
  k2 (P14, I15)) (fun k12 =>
  lp (fun again17 (j16 : Int32 × Ptr) =>
  if (nI 6) ≤ j16.1 then
  k12 j16.2
  else
  (pix kd j16.2 (z + 809) 6 j16.1 (1, 0, 0)).bind fun b19 =>
  (wrP j16.2 (z + 809) 6 (j16.1 - (nI 1)) b19).bind fun P21 =>
  again17 ((j16.1 + (nI 1)), P21)) fuel ((nI 1), P))
  else
  k2 (P, I))
theorem wd_x0_remembers : yX0_remembers.cls = RX0 ∧ yX0_remembers.cls ≠ "java/lang/invoke/MethodHandle" ∧ yX0_remembers.cls ≠ "java/lang/invoke/VarHandle" ∧ (parseMethodDescriptor yX0_remembers.desc).map (fun d => d.parameters.length) = some 0 := by decide +kernel
set_option maxRecDepth 100000 in
theorem ctx_x0_remembers {cs : Cs} {z : Nat} {kd : Kd} (P : Ptr) (I : Mem) (hz : kd z = (0, 0, 0)) : CtX cs z kd yX0_remembers cX0_remembers 3 none 2 44 [.ref z] (P, I) (fun r => (none, (r.1, r.2))) (x0_remembers kd P I z) := by
  refine CtX.of RX0 (by decide) rfl (Nat.le_of_ble_eq_true rfl) ?_
  intro l D sz p e s m args below meth c hsh K hr hlk hK
  refine g_sub (ls' := [(0, .ref z)]) [0] rfl ?_
  unfold x0_remembers
  refine g_aloadn K 0 rfl rfl 1 dX0_remembers_0 rfl ?_
  refine gx_get K hK hsh 8 (v := .int (I z 8)) 4 in_X0 hz rfl (Nat.le_of_ble_eq_true rfl) rfl (by decide) (Or.inl q416) rfl dX0_remembers_1 rfl ?_
  refine g_bipush K (nI 6) bp_6 6 dX0_remembers_4 rfl ?_
  refine g_jn (head := 61) (L := fun j1 => [(0, .ref z)]) (sf := fun j1 => []) (mf := fun j1 => (j1.1, j1.2)) (fun j1 => ?_) (fun k2 h3 => ?_)
  · try dsimp only
    refine g_aloadn K 0 rfl rfl 62 dX0_remembers_61 rfl ?_
    refine gx_get K hK hsh 7 (v := .ref (z + 809)) 65 in_X0 hz rfl (Nat.le_of_ble_eq_true rfl) rfl (by decide) (Or.inl q415) rfl dX0_remembers_62 rfl ?_
    refine g_aloadn K 0 rfl rfl 66 dX0_remembers_65 rfl ?_
    refine gx_get K hK hsh 8 (v := .int (j1.2 z 8)) 69 in_X0 hz rfl (Nat.le_of_ble_eq_true rfl) rfl (by decide) (Or.inl q416) rfl dX0_remembers_66 rfl ?_
    refine gx_pal K hK hsh (1, 0, 0) 70 (sh_0_back hsh hz) dX0_remembers_69 rfl (fun b4 hb5 => ?_)
    refine g_aloadn K 0 rfl rfl 71 dX0_remembers_70 rfl ?_
    refine gx_get K hK hsh 4 (v := .ref (z + 2)) 74 in_X0 hz rfl (Nat.le_of_ble_eq_true rfl) rfl (by decide) (Or.inl q411) rfl dX0_remembers_71 rfl ?_
    refine gx_call K hK hsh 77 (ctx_x1_moves j1.1 j1.2 b4 (z + 2) hb5 (sh_0_borough hsh hz)) (lw_V q988 q989 q990 q152 q991) wd_x1_moves hb5 rfl (Nat.le_of_ble_eq_true rfl) rfl (by decide) rfl (Nat.le_of_ble_eq_true rfl) dX0_remembers_74 rfl (fun r6 hr7 => ?_)
    refine g_aloadn K 0 rfl rfl 78 dX0_remembers_77 rfl ?_
    refine g_dup K rfl 79 dX0_remembers_78 rfl ?_
    refine gx_get K hK hsh 8 (v := .int (r6 z 8)) 82 in_X0 hz rfl (Nat.le_of_ble_eq_true rfl) rfl (by decide) (Or.inl q416) rfl dX0_remembers_79 rfl ?_
    refine g_iconst K (nI 1) ic_1 83 dX0_remembers_82 rfl ?_
    refine g_iadd K 84 dX0_remembers_83 rfl ?_
    refine gx_put K hK hsh 8 (ty := .int) 87 in_X0 tyX0 tyX0_ok nmX0 hz rfl rfl (Nat.le_of_ble_eq_true rfl) rfl (by decide) (Or.inl q416) rfl (by decide +kernel) rfl rfl (Nat.le_of_ble_eq_true rfl) dX0_remembers_84 rfl (fun I8 _ => ?_)
    exact gx_vret K hK hsh hr hlk dX0_remembers_87 rfl
  · refine g_icmp_ne K 9 61 dX0_remembers_6 rfl (by decide) (fun _ => ?_) (fun _ => ?_)
    · refine g_aloadn K 0 rfl rfl 10 dX0_remembers_9 rfl ?_
      refine gx_get K hK hsh 7 (v := .ref (z + 809)) 13 in_X0 hz rfl (Nat.le_of_ble_eq_true rfl) rfl (by decide) (Or.inl q415) rfl dX0_remembers_10 rfl ?_
      refine g_iconst K (nI 0) ic_0 14 dX0_remembers_13 rfl ?_
      refine gx_pal K hK hsh (1, 0, 0) 15 (sh_0_back hsh hz) dX0_remembers_14 rfl (fun b9 hb10 => ?_)
      refine g_astoren K [(0, .ref z), (1, .ref b9)] [1, 0] rfl (by decide) rfl 16 dX0_remembers_15 rfl ?_
      refine g_iconst K (nI 1) ic_1 17 dX0_remembers_16 rfl ?_
      refine g_istoren K [(0, .ref z), (1, .ref b9), (2, .int (nI 1))] [1, 2, 0] rfl (by decide) rfl 18 dX0_remembers_17 rfl ?_
      refine g_jn (head := 44) (L := fun j11 => [(0, .ref z), (1, .ref b9)]) (sf := fun j11 => []) (mf := fun j11 => (j11, I)) (fun j11 => ?_) (fun k12 h13 => ?_)
      · try dsimp only
        refine g_aloadn K 0 rfl rfl 45 dX0_remembers_44 rfl ?_
        refine gx_get K hK hsh 7 (v := .ref (z + 809)) 48 in_X0 hz rfl (Nat.le_of_ble_eq_true rfl) rfl (by decide) (Or.inl q415) rfl dX0_remembers_45 rfl ?_
        refine g_iconst K (nI 5) ic_5 49 dX0_remembers_48 rfl ?_
        refine g_aloadn K 1 rfl rfl 50 dX0_remembers_49 rfl ?_
        refine gx_past K hK hsh 51 (sh_0_back hsh hz) hb10 dX0_remembers_50 rfl (fun P14 => ?_)
        refine g_aloadn K 0 rfl rfl 52 dX0_remembers_51 rfl ?_
        refine g_dup K rfl 53 dX0_remembers_52 rfl ?_
        refine gx_get K hK hsh 8 (v := .int (I z 8)) 56 in_X0 hz rfl (Nat.le_of_ble_eq_true rfl) rfl (by decide) (Or.inl q416) rfl dX0_remembers_53 rfl ?_
        refine g_iconst K (nI 1) ic_1 57 dX0_remembers_56 rfl ?_
        refine g_isub K 58 dX0_remembers_57 rfl ?_
        refine gx_put K hK hsh 8 (ty := .int) 61 in_X0 tyX0 tyX0_ok nmX0 hz rfl rfl (Nat.le_of_ble_eq_true rfl) rfl (by decide) (Or.inl q416) rfl (by decide +kernel) rfl rfl (Nat.le_of_ble_eq_true rfl) dX0_remembers_58 rfl (fun I15 _ => ?_)
        refine g_sub (ls' := [(0, .ref z)]) [0] rfl ?_
        exact h3 (P14, I15)
      · refine g_lp (head := 18) (L := fun j16 => [(0, .ref z), (1, .ref b9), (2, .int j16.1)]) (sf := fun j16 => []) (mf := fun j16 => (j16.2, I)) (fun again17 h18 j16 => ?_) fuel ((nI 1), P)
        try dsimp only
        refine g_iloadn K 2 rfl rfl 19 dX0_remembers_18 rfl ?_
        refine g_bipush K (nI 6) bp_6 21 dX0_remembers_19 rfl ?_
        refine g_icmp_ge K 24 44 dX0_remembers_21 rfl (by decide) (fun _ => ?_) (fun _ => ?_)
        · refine g_sub (ls' := [(0, .ref z), (1, .ref b9)]) [0, 1] rfl ?_
          exact h13 j16.2
        · refine g_aloadn K 0 rfl rfl 25 dX0_remembers_24 rfl ?_
          refine gx_get K hK hsh 7 (v := .ref (z + 809)) 28 in_X0 hz rfl (Nat.le_of_ble_eq_true rfl) rfl (by decide) (Or.inl q415) rfl dX0_remembers_25 rfl ?_
          refine g_iloadn K 2 rfl rfl 29 dX0_remembers_28 rfl ?_
          refine g_iconst K (nI 1) ic_1 30 dX0_remembers_29 rfl ?_
          refine g_isub K 31 dX0_remembers_30 rfl ?_
          refine g_aloadn K 0 rfl rfl 32 dX0_remembers_31 rfl ?_
          refine gx_get K hK hsh 7 (v := .ref (z + 809)) 35 in_X0 hz rfl (Nat.le_of_ble_eq_true rfl) rfl (by decide) (Or.inl q415) rfl dX0_remembers_32 rfl ?_
          refine g_iloadn K 2 rfl rfl 36 dX0_remembers_35 rfl ?_
          refine gx_pal K hK hsh (1, 0, 0) 37 (sh_0_back hsh hz) dX0_remembers_36 rfl (fun b19 hb20 => ?_)
          refine gx_past K hK hsh 38 (sh_0_back hsh hz) hb20 dX0_remembers_37 rfl (fun P21 => ?_)
          refine g_iinc K (j16.1 + (nI 1)) 2 [(0, .ref z), (1, .ref b9), (2, .int (j16.1 + (nI 1)))] [1, 2, 0] rfl (by rw [ic_1]) (by decide) rfl 41 dX0_remembers_38 rfl ?_
          refine g_goto K 18 dX0_remembers_41 (by decide) ?_
          exact h18 ((j16.1 + (nI 1)), P21)
    · exact h3 (P, I)
/-- GingerRents.act(III)Z -/
def x0_act (kd : Kd) (P : Ptr) (I : Mem) (z : Nat) (x1 : Int32) (x2 : Int32) (x3 : Int32) : Option (Bool × Ptr × Mem) :=
  (x0_isHouse I z x2).bind fun r1 =>
  if (bI r1) = 0 then
  some (false, P, I)
  else
  (x0_canAct I z x1 x2 x3).bind fun r3 =>
  if (bI r3) = 0 then
  some (false, P, I)
  else
  (x0_remembers kd P I z).bind fun r5 =>
  if x1 = (nI 20) then
  (x1_weds kd r5.1 r5.2 (z + 2) x2).bind fun r7 =>
  some (true, r5.1, r7)
  else
  if x1 = (nI 21) then
  (x1_moves_2 r5.2 (z + 2) x2 x3).bind fun r10 =>
  some (true, r5.1, r10)
  else
  if x1 = (nI 22) then
  (x1_razes kd r5.1 r5.2 (z + 2) x2).bind fun r13 =>
  some (true, r5.1, r13)
  else
  if (nI 4) ≤ x1 then
  (x0_at r5.2 z x2).bind fun r16 =>
  (x3_bakes r5.2 r16 (x1 - (nI 10)) x3).bind fun r18 =>
  some (true, r5.1, r18)
  else
  (x1_nibbles kd r5.1 r5.2 (z + 2) x2 x1 x3).bind fun r20 =>
  some (true, r5.1, r20)
theorem wd_x0_act : yX0_act.cls = RX0 ∧ yX0_act.cls ≠ "java/lang/invoke/MethodHandle" ∧ yX0_act.cls ≠ "java/lang/invoke/VarHandle" ∧ (parseMethodDescriptor yX0_act.desc).map (fun d => d.parameters.length) = some 3 := by decide +kernel
set_option maxRecDepth 100000 in
theorem ctx_x0_act {cs : Cs} {z : Nat} {kd : Kd} (P : Ptr) (I : Mem) (x1 : Int32) (x2 : Int32) (x3 : Int32) (hz : kd z = (0, 0, 0)) : CtX cs z kd yX0_act cX0_act 4 (some .boolean) 5 112 [.ref z, .int x1, .int x2, .int x3] (P, I) (fun r => (some (.int (bI r.1)), (r.2.1, r.2.2))) (x0_act kd P I z x1 x2 x3) := by
  refine CtX.of RX0 (by decide) rfl (Nat.le_of_ble_eq_true rfl) ?_
  intro l D sz p e s m args below meth c hsh K hr hlk hK
  refine g_sub (ls' := [(0, .ref z), (1, .int x1), (2, .int x2), (3, .int x3)]) [0, 1, 2, 3] rfl ?_
  unfold x0_act
  refine g_aloadn K 0 rfl rfl 1 dX0_act_0 rfl ?_
  refine g_iloadn K 2 rfl rfl 2 dX0_act_1 rfl ?_
  refine gx_call K hK hsh 5 (ctx_x0_isHouse P I x2 hz) (lw_V q1020 q1022 qs31 q151 q1023) wd_x0_isHouse hz rfl (Nat.le_of_ble_eq_true rfl) rfl (by decide) rfl (Nat.le_of_ble_eq_true rfl) dX0_act_2 rfl (fun r1 hr2 => ?_)
  refine g_if_eq K 8 18 dX0_act_5 rfl (by decide) (fun _ => ?_) (fun _ => ?_)
  · refine g_iconst K (nI 0) ic_0 19 dX0_act_18 rfl ?_
    exact gx_zret K hK hsh hr hlk (b := false) dX0_act_19 rfl rfl
  · refine g_aloadn K 0 rfl rfl 9 dX0_act_8 rfl ?_
    refine g_iloadn K 1 rfl rfl 10 dX0_act_9 rfl ?_
    refine g_iloadn K 2 rfl rfl 11 dX0_act_10 rfl ?_
    refine g_iloadn K 3 rfl rfl 12 dX0_act_11 rfl ?_
    refine gx_call K hK hsh 15 (ctx_x0_canAct P I x1 x2 x3 hz) (lw_V q1028 q1030 qs32 q151 q1031) wd_x0_canAct hz rfl (Nat.le_of_ble_eq_true rfl) rfl (by decide) rfl (Nat.le_of_ble_eq_true rfl) dX0_act_12 rfl (fun r3 hr4 => ?_)
    refine g_if_ne K 18 20 dX0_act_15 rfl (by decide) (fun _ => ?_) (fun _ => ?_)
    · refine g_iconst K (nI 0) ic_0 19 dX0_act_18 rfl ?_
      exact gx_zret K hK hsh hr hlk (b := false) dX0_act_19 rfl rfl
    · refine g_aloadn K 0 rfl rfl 21 dX0_act_20 rfl ?_
      refine gx_call K hK hsh 24 (ctx_x0_remembers P I hz) (lw_V q1045 q1047 qs33 q151 q1048) wd_x0_remembers hz rfl (Nat.le_of_ble_eq_true rfl) rfl (by decide) rfl (Nat.le_of_ble_eq_true rfl) dX0_act_21 rfl (fun r5 hr6 => ?_)
      refine g_iloadn K 1 rfl rfl 25 dX0_act_24 rfl ?_
      refine g_tcase K (nI 20) 52 dX0_act_25 (by decide) (by decide) rfl (by decide) (fun _ => ?_) (fun hx9 => ?_)
      · refine g_aloadn K 0 rfl rfl 53 dX0_act_52 rfl ?_
        refine gx_get K hK hsh 4 (v := .ref (z + 2)) 56 in_X0 hz rfl (Nat.le_of_ble_eq_true rfl) rfl (by decide) (Or.inl q411) rfl dX0_act_53 rfl ?_
        refine g_iloadn K 2 rfl rfl 57 dX0_act_56 rfl ?_
        refine gx_call K hK hsh 60 (ctx_x1_weds r5.1 r5.2 (z + 2) x2 (sh_0_borough hsh hz)) (lw_V q1049 q1050 q1051 q152 q1052) wd_x1_weds (sh_0_borough hsh hz) rfl (Nat.le_of_ble_eq_true rfl) rfl (by decide) rfl (Nat.le_of_ble_eq_true rfl) dX0_act_57 rfl (fun r7 hr8 => ?_)
        refine g_goto K 117 dX0_act_60 (by decide) ?_
        refine g_iconst K (nI 1) ic_1 118 dX0_act_117 rfl ?_
        exact gx_zret K hK hsh hr hlk (b := true) dX0_act_118 rfl rfl
      · refine g_tcase K (nI 21) 63 dX0_act_25 (by decide) (by decide) rfl (by decide) (fun _ => ?_) (fun hx12 => ?_)
        · refine g_aloadn K 0 rfl rfl 64 dX0_act_63 rfl ?_
          refine gx_get K hK hsh 4 (v := .ref (z + 2)) 67 in_X0 hz rfl (Nat.le_of_ble_eq_true rfl) rfl (by decide) (Or.inl q411) rfl dX0_act_64 rfl ?_
          refine g_iloadn K 2 rfl rfl 68 dX0_act_67 rfl ?_
          refine g_iloadn K 3 rfl rfl 69 dX0_act_68 rfl ?_
          refine gx_call K hK hsh 72 (ctx_x1_moves_2 r5.1 r5.2 (z + 2) x2 x3 (sh_0_borough hsh hz)) (lw_V q1082 q1079 q1080 q152 q1081) wd_x1_moves_2 (sh_0_borough hsh hz) rfl (Nat.le_of_ble_eq_true rfl) rfl (by decide) rfl (Nat.le_of_ble_eq_true rfl) dX0_act_69 rfl (fun r10 hr11 => ?_)
          refine g_goto K 117 dX0_act_72 (by decide) ?_
          refine g_iconst K (nI 1) ic_1 118 dX0_act_117 rfl ?_
          exact gx_zret K hK hsh hr hlk (b := true) dX0_act_118 rfl rfl
        · refine g_tcase K (nI 22) 75 dX0_act_25 (by decide) (by decide) rfl (by decide) (fun _ => ?_) (fun hx15 => ?_)
          · refine g_aloadn K 0 rfl rfl 76 dX0_act_75 rfl ?_
            refine gx_get K hK hsh 4 (v := .ref (z + 2)) 79 in_X0 hz rfl (Nat.le_of_ble_eq_true rfl) rfl (by decide) (Or.inl q411) rfl dX0_act_76 rfl ?_
            refine g_iloadn K 2 rfl rfl 80 dX0_act_79 rfl ?_
            refine gx_call K hK hsh 83 (ctx_x1_razes r5.1 r5.2 (z + 2) x2 (sh_0_borough hsh hz)) (lw_V q1083 q1084 q1085 q152 q1086) wd_x1_razes (sh_0_borough hsh hz) rfl (Nat.le_of_ble_eq_true rfl) rfl (by decide) rfl (Nat.le_of_ble_eq_true rfl) dX0_act_80 rfl (fun r13 hr14 => ?_)
            refine g_goto K 117 dX0_act_83 (by decide) ?_
            refine g_iconst K (nI 1) ic_1 118 dX0_act_117 rfl ?_
            exact gx_zret K hK hsh hr hlk (b := true) dX0_act_118 rfl rfl
          · refine g_tdef K 86 dX0_act_25 (by have := tne (k := 20) (by decide) hx9; have := tne (k := 21) (by decide) hx12; have := tne (k := 22) (by decide) hx15; omega) (by decide) ?_
            refine g_iloadn K 1 rfl rfl 87 dX0_act_86 rfl ?_
            refine g_iconst K (nI 4) ic_4 88 dX0_act_87 rfl ?_
            refine g_icmp_ge K 91 104 dX0_act_88 rfl (by decide) (fun _ => ?_) (fun _ => ?_)
            · refine g_aloadn K 0 rfl rfl 105 dX0_act_104 rfl ?_
              refine g_iloadn K 2 rfl rfl 106 dX0_act_105 rfl ?_
              refine gx_call K hK hsh 109 (ctx_x0_at r5.1 r5.2 x2 hz) (lw_V q1004 q1006 qs29 q151 q1007) wd_x0_at hz rfl (Nat.le_of_ble_eq_true rfl) rfl (by decide) rfl (Nat.le_of_ble_eq_true rfl) dX0_act_106 rfl (fun r16 hr17 => ?_)
              refine g_iloadn K 1 rfl rfl 110 dX0_act_109 rfl ?_
              refine g_bipush K (nI 10) bp_10 112 dX0_act_110 rfl ?_
              refine g_isub K 113 dX0_act_112 rfl ?_
              refine g_iloadn K 3 rfl rfl 114 dX0_act_113 rfl ?_
              refine gx_call K hK hsh 117 (ctx_x3_bakes r5.1 r5.2 r16 (x1 - (nI 10)) x3 (at_kd hsh hz hr17)) (lw_V q1091 q1092 q1093 q157 q1094) wd_x3_bakes (at_kd hsh hz hr17) rfl (Nat.le_of_ble_eq_true rfl) rfl (by decide) rfl (Nat.le_of_ble_eq_true rfl) dX0_act_114 rfl (fun r18 hr19 => ?_)
              refine g_iconst K (nI 1) ic_1 118 dX0_act_117 rfl ?_
              exact gx_zret K hK hsh hr hlk (b := true) dX0_act_118 rfl rfl
            · refine g_aloadn K 0 rfl rfl 92 dX0_act_91 rfl ?_
              refine gx_get K hK hsh 4 (v := .ref (z + 2)) 95 in_X0 hz rfl (Nat.le_of_ble_eq_true rfl) rfl (by decide) (Or.inl q411) rfl dX0_act_92 rfl ?_
              refine g_iloadn K 2 rfl rfl 96 dX0_act_95 rfl ?_
              refine g_iloadn K 1 rfl rfl 97 dX0_act_96 rfl ?_
              refine g_iloadn K 3 rfl rfl 98 dX0_act_97 rfl ?_
              refine gx_call K hK hsh 101 (ctx_x1_nibbles r5.1 r5.2 (z + 2) x2 x1 x3 (sh_0_borough hsh hz)) (lw_V q1087 q1088 q1089 q152 q1090) wd_x1_nibbles (sh_0_borough hsh hz) rfl (Nat.le_of_ble_eq_true rfl) rfl (by decide) rfl (Nat.le_of_ble_eq_true rfl) dX0_act_98 rfl (fun r20 hr21 => ?_)
              refine g_goto K 117 dX0_act_101 (by decide) ?_
              refine g_iconst K (nI 1) ic_1 118 dX0_act_117 rfl ?_
              exact gx_zret K hK hsh hr hlk (b := true) dX0_act_118 rfl rfl
/-- GingerRents.bound(III)I -/
def x0_bound (x1 : Int32) (x2 : Int32) (x3 : Int32) : Option Int32 :=
  some (imax x2 (imin x3 x1))
theorem wds_x0_bound : yX0_bound.cls ≠ "java/lang/invoke/MethodHandle" ∧ yX0_bound.cls ≠ "java/lang/invoke/VarHandle" ∧ (parseMethodDescriptor yX0_bound.desc).map (fun d => d.parameters.length) = some 3 := by decide +kernel
set_option maxRecDepth 100000 in
theorem cts_x0_bound (x1 : Int32) (x2 : Int32) (x3 : Int32) : CtS yX0_bound cX0_bound 3 (some .int) 1 21 [.int x1, .int x2, .int x3] (fun r => some (.int r)) (x0_bound x1 x2 x3) := by
  refine CtS.of RX0 (by decide) rfl (Nat.le_of_ble_eq_true rfl) ?_
  intro l p e s m args below meth c K hr hlk
  refine g_sub (ls' := [(0, .int x1), (1, .int x2), (2, .int x3)]) [0, 1, 2] rfl ?_
  unfold x0_bound
  refine g_iloadn K 1 rfl rfl 1 dX0_bound_0 rfl ?_
  refine g_iloadn K 2 rfl rfl 2 dX0_bound_1 rfl ?_
  refine g_iloadn K 0 rfl rfl 3 dX0_bound_2 rfl ?_
  refine g_mmin K 6 q1219 q878 q159 q879 (by decide) (Nat.le_of_ble_eq_true rfl) dX0_bound_3 rfl ?_
  refine g_mmax K 9 q1220 q839 q159 q840 (by decide) (Nat.le_of_ble_eq_true rfl) dX0_bound_6 rfl ?_
  exact gs_iret K hr hlk dX0_bound_9 rfl
/-- GingerRents.book(II)I -/
def x0_book (I : Mem) (z : Nat) (x1 : Int32) (x2 : Int32) : Option (Int32) :=
  (x0_isIn x1 (nI 0) ((I (z + 2) 21) - (nI 1))).bind fun r1 =>
  if (bI r1) = 0 then
  some (-2 : Int32)
  else
  (x0_isIn x2 (nI 0) (nI 3)).bind fun r2 =>
  if (bI r2) = 0 then
  some (-2 : Int32)
  else
  (ix 150 x1).bind fun i3 =>
  (rd I (z + 5 + i3) 4 x2).bind fun v5 =>
  some v5
theorem wd_x0_book : yX0_book.cls = RX0 ∧ yX0_book.cls ≠ "java/lang/invoke/MethodHandle" ∧ yX0_book.cls ≠ "java/lang/invoke/VarHandle" ∧ (parseMethodDescriptor yX0_book.desc).map (fun d => d.parameters.length) = some 2 := by decide +kernel
set_option maxRecDepth 100000 in
theorem ctx_x0_book {cs : Cs} {z : Nat} {kd : Kd} (P : Ptr) (I : Mem) (x1 : Int32) (x2 : Int32) (hz : kd z = (0, 0, 0)) : CtX cs z kd yX0_book cX0_book 3 (some .int) 1 22 [.ref z, .int x1, .int x2] (P, I) (fun r => (some (.int r), (P, I))) (x0_book I z x1 x2) := by
  refine CtX.of RX0 (by decide) rfl (Nat.le_of_ble_eq_true rfl) ?_
  intro l D sz p e s m args below meth c hsh K hr hlk hK
  refine g_sub (ls' := [(0, .ref z), (1, .int x1), (2, .int x2)]) [0, 1, 2] rfl ?_
  unfold x0_book
  refine g_iloadn K 1 rfl rfl 1 dX0_book_0 rfl ?_
  refine g_iconst K (nI 0) ic_0 2 dX0_book_1 rfl ?_
  refine g_aloadn K 0 rfl rfl 3 dX0_book_2 rfl ?_
  refine gx_get K hK hsh 4 (v := .ref (z + 2)) 6 in_X0 hz rfl (Nat.le_of_ble_eq_true rfl) rfl (by decide) (Or.inl q411) rfl dX0_book_3 rfl ?_
  refine gx_get K hK hsh 21 (v := .int (I (z + 2) 21)) 9 in_X1 (sh_0_borough hsh hz) rfl (Nat.le_of_ble_eq_true rfl) rfl (by decide) (Or.inr (nf_q343 hK.2)) rfl dX0_book_6 rfl ?_
  refine g_iconst K (nI 1) ic_1 10 dX0_book_9 rfl ?_
  refine g_isub K 11 dX0_book_10 rfl ?_
  refine g_callS K 14 (cts_x0_isIn x1 (nI 0) ((I (z + 2) 21) - (nI 1))) (lw_S q478 q479 q151 q480) wds_x0_isIn (by decide) rfl (Nat.le_of_ble_eq_true rfl) dX0_book_11 rfl (fun r1 _ => ?_)
  refine g_if_eq K 17 40 dX0_book_14 rfl (by decide) (fun _ => ?_) (fun _ => ?_)
  · refine g_bipush K (-2 : Int32) bp_m2 42 dX0_book_40 rfl ?_
    exact gx_iret K hK hsh hr hlk dX0_book_42 rfl
  · refine g_iloadn K 2 rfl rfl 18 dX0_book_17 rfl ?_
    refine g_iconst K (nI 0) ic_0 19 dX0_book_18 rfl ?_
    refine g_iconst K (nI 3) ic_3 20 dX0_book_19 rfl ?_
    refine g_callS K 23 (cts_x0_isIn x2 (nI 0) (nI 3)) (lw_S q478 q479 q151 q480) wds_x0_isIn (by decide) rfl (Nat.le_of_ble_eq_true rfl) dX0_book_20 rfl (fun r2 _ => ?_)
    refine g_if_eq K 26 40 dX0_book_23 rfl (by decide) (fun _ => ?_) (fun _ => ?_)
    · refine g_bipush K (-2 : Int32) bp_m2 42 dX0_book_40 rfl ?_
      exact gx_iret K hK hsh hr hlk dX0_book_42 rfl
    · refine g_aloadn K 0 rfl rfl 27 dX0_book_26 rfl ?_
      refine gx_get K hK hsh 4 (v := .ref (z + 2)) 30 in_X0 hz rfl (Nat.le_of_ble_eq_true rfl) rfl (by decide) (Or.inl q411) rfl dX0_book_27 rfl ?_
      refine gx_get K hK hsh 1 (v := .ref (z + 4)) 33 in_X1 (sh_0_borough hsh hz) rfl (Nat.le_of_ble_eq_true rfl) rfl (by decide) (Or.inr (nf_q300 hK.2)) rfl dX0_book_30 rfl ?_
      refine g_iloadn K 1 rfl rfl 34 dX0_book_33 rfl ?_
      refine gx_aal K hK hsh 35 (sh_1_book hsh (sh_0_borough hsh hz)) dX0_book_34 rfl (fun i3 hi4 => ?_)
      refine g_iloadn K 2 rfl rfl 36 dX0_book_35 rfl ?_
      refine gx_ald K hK hsh 37 (sh_22 hsh (sh_1_book hsh (sh_0_borough hsh hz)) hi4) dX0_book_36 rfl (fun v5 => ?_)
      refine g_goto K 42 dX0_book_37 (by decide) ?_
      exact gx_iret K hK hsh hr hlk dX0_book_42 rfl
/-- GingerRents.step(II)I -/
def x0_step (I : Mem) (z : Nat) (x1 : Int32) (x2 : Int32) : Option (Int32) :=
  (x0_at I z x1).bind fun r1 =>
  (x3_sum I r1).bind fun r3 =>
  (x0_at I z x2).bind fun r5 =>
  (x3_sum I r5).bind fun r7 =>
  some (r3 + r7)
theorem wd_x0_step : yX0_step.cls = RX0 ∧ yX0_step.cls ≠ "java/lang/invoke/MethodHandle" ∧ yX0_step.cls ≠ "java/lang/invoke/VarHandle" ∧ (parseMethodDescriptor yX0_step.desc).map (fun d => d.parameters.length) = some 2 := by decide +kernel
set_option maxRecDepth 100000 in
theorem ctx_x0_step {cs : Cs} {z : Nat} {kd : Kd} (P : Ptr) (I : Mem) (x1 : Int32) (x2 : Int32) (hz : kd z = (0, 0, 0)) : CtX cs z kd yX0_step cX0_step 3 (some .int) 1 25 [.ref z, .int x1, .int x2] (P, I) (fun r => (some (.int r), (P, I))) (x0_step I z x1 x2) := by
  refine CtX.of RX0 (by decide) rfl (Nat.le_of_ble_eq_true rfl) ?_
  intro l D sz p e s m args below meth c hsh K hr hlk hK
  refine g_sub (ls' := [(0, .ref z), (1, .int x1), (2, .int x2)]) [0, 1, 2] rfl ?_
  unfold x0_step
  refine g_aloadn K 0 rfl rfl 1 dX0_step_0 rfl ?_
  refine g_iloadn K 1 rfl rfl 2 dX0_step_1 rfl ?_
  refine gx_call K hK hsh 5 (ctx_x0_at P I x1 hz) (lw_V q1004 q1006 qs29 q151 q1007) wd_x0_at hz rfl (Nat.le_of_ble_eq_true rfl) rfl (by decide) rfl (Nat.le_of_ble_eq_true rfl) dX0_step_2 rfl (fun r1 hr2 => ?_)
  refine gx_call K hK hsh 8 (ctx_x3_sum P I r1 (at_kd hsh hz hr2)) (lw_V q1297 q1041 q1042 q157 q1043) wd_x3_sum (at_kd hsh hz hr2) rfl (Nat.le_of_ble_eq_true rfl) rfl (by decide) rfl (Nat.le_of_ble_eq_true rfl) dX0_step_5 rfl (fun r3 hr4 => ?_)
  refine g_aloadn K 0 rfl rfl 9 dX0_step_8 rfl ?_
  refine g_iloadn K 2 rfl rfl 10 dX0_step_9 rfl ?_
  refine gx_call K hK hsh 13 (ctx_x0_at P I x2 hz) (lw_V q1004 q1006 qs29 q151 q1007) wd_x0_at hz rfl (Nat.le_of_ble_eq_true rfl) rfl (by decide) rfl (Nat.le_of_ble_eq_true rfl) dX0_step_10 rfl (fun r5 hr6 => ?_)
  refine gx_call K hK hsh 16 (ctx_x3_sum P I r5 (at_kd hsh hz hr6)) (lw_V q1297 q1041 q1042 q157 q1043) wd_x3_sum (at_kd hsh hz hr6) rfl (Nat.le_of_ble_eq_true rfl) rfl (by decide) rfl (Nat.le_of_ble_eq_true rfl) dX0_step_13 rfl (fun r7 hr8 => ?_)
  refine g_iadd K 17 dX0_step_16 rfl ?_
  exact gx_iret K hK hsh hr hlk dX0_step_17 rfl
/-- GingerRents.laysCosts(IZ)V -/
def x0_laysCosts (kd : Kd) (P : Ptr) (I : Mem) (z : Nat) (x1 : Int32) (x2 : Bool) : Option (Mem) :=
  jn (fun (j1 : Mem) =>
  lp (fun again5 (j4 : Int32 × Mem) =>
  if (j4.2 (z + 2) 14) ≤ j4.1 then
  some j4.2
  else
  lp (fun again8 (j7 : Int32 × Mem) =>
  if (j7.2 (z + 2) 14) ≤ j7.1 then
  again5 ((j4.1 + (nI 1)), j7.2)
  else
  lp (fun again11 (j10 : Int32 × Mem) =>
  if (j10.2 (z + 2) 14) ≤ j10.1 then
  again8 ((j7.1 + (nI 1)), j10.2)
  else
  (rd j10.2 (z + 2424) 12 j7.1).bind fun v13 =>
  if (1000000 : Int32) ≤ v13 then
  again8 ((j7.1 + (nI 1)), j10.2)
  else
  (pk kd (P (z + 2) 13) (20, 12, 0)).bind fun b14 =>
  (rd j10.2 b14 12 j7.1).bind fun v16 =>
  if ((v16 >>> (j10.1 &&& 31)) &&& (nI 1)) = 0 then
  again11 ((j10.1 + (nI 1)), j10.2)
  else
  (rd j10.2 (z + 2424) 12 j10.1).bind fun v17 =>
  jn (fun (j18 : Int32) =>
  (wr j10.2 (z + 2424) 12 j10.1 (imin v17 j18)).bind fun I21 =>
  again11 ((j10.1 + (nI 1)), I21)) (fun k19 =>
  if (bI x2) = 0 then
  (rd j10.2 (z + 2424) 12 j7.1).bind fun v22 =>
  (x0_step j10.2 z j7.1 j10.1).bind fun r23 =>
  k19 (imax v22 r23)
  else
  (rd j10.2 (z + 2424) 12 j7.1).bind fun v25 =>
  (x0_step j10.2 z j7.1 j10.1).bind fun r26 =>
  k19 (v25 + r26))) fuel ((nI 0), j7.2)) fuel ((nI 0), j4.2)) fuel ((nI 0), j1)) (fun k2 =>
  lp (fun again29 (j28 : Int32 × Mem) =>
  if (nI 12) ≤ j28.1 then
  k2 j28.2
  else
  jn (fun (j31 : Int32) =>
  (wr j28.2 (z + 2424) 12 j28.1 j31).bind fun I34 =>
  again29 ((j28.1 + (nI 1)), I34)) (fun k32 =>
  if j28.1 = x1 then
  k32 (nI 0)
  else
  k32 (1000000 : Int32))) fuel ((nI 0), I))
theorem wd_x0_laysCosts : yX0_laysCosts.cls = RX0 ∧ yX0_laysCosts.cls ≠ "java/lang/invoke/MethodHandle" ∧ yX0_laysCosts.cls ≠ "java/lang/invoke/VarHandle" ∧ (parseMethodDescriptor yX0_laysCosts.desc).map (fun d => d.parameters.length) = some 2 := by decide +kernel
set_option maxRecDepth 100000 in
theorem ctx_x0_laysCosts {cs : Cs} {z : Nat} {kd : Kd} (P : Ptr) (I : Mem) (x1 : Int32) (x2 : Bool) (hz : kd z = (0, 0, 0)) : CtX cs z kd yX0_laysCosts cX0_laysCosts 6 none 2 47 [.ref z, .int x1, .int (bI x2)] (P, I) (fun r => (none, (P, r))) (x0_laysCosts kd P I z x1 x2) := by
  refine CtX.of RX0 (by decide) rfl (Nat.le_of_ble_eq_true rfl) ?_
  intro l D sz p e s m args below meth c hsh K hr hlk hK
  refine g_sub (ls' := [(0, .ref z), (1, .int x1), (2, .int (bI x2))]) [0, 1, 2] rfl ?_
  unfold x0_laysCosts
  refine g_iconst K (nI 0) ic_0 1 dX0_laysCosts_0 rfl ?_
  refine g_istoren K [(0, .ref z), (1, .int x1), (2, .int (bI x2)), (3, .int (nI 0))] [1, 2, 3, 0] rfl (by decide) rfl 2 dX0_laysCosts_1 rfl ?_
  refine g_jn (head := 32) (L := fun j1 => [(0, .ref z), (2, .int (bI x2))]) (sf := fun j1 => []) (mf := fun j1 => (P, j1)) (fun j1 => ?_) (fun k2 h3 => ?_)
  · try dsimp only
    refine g_iconst K (nI 0) ic_0 33 dX0_laysCosts_32 rfl ?_
    refine g_istoren K [(0, .ref z), (2, .int (bI x2)), (3, .int (nI 0))] [1, 2, 0] rfl (by decide) rfl 34 dX0_laysCosts_33 rfl ?_
    refine g_lp (head := 34) (L := fun j4 => [(0, .ref z), (2, .int (bI x2)), (3, .int j4.1)]) (sf := fun j4 => []) (mf := fun j4 => (P, j4.2)) (fun again5 h6 j4 => ?_) fuel ((nI 0), j1)
    try dsimp only
    refine g_iloadn K 2 rfl rfl 35 dX0_laysCosts_34 rfl ?_
    refine g_aloadn K 0 rfl rfl 36 dX0_laysCosts_35 rfl ?_
    refine gx_get K hK hsh 4 (v := .ref (z + 2)) 39 in_X0 hz rfl (Nat.le_of_ble_eq_true rfl) rfl (by decide) (Or.inl q411) rfl dX0_laysCosts_36 rfl ?_
    refine gx_get K hK hsh 14 (v := .int (j4.2 (z + 2) 14)) 42 in_X1 (sh_0_borough hsh hz) rfl (Nat.le_of_ble_eq_true rfl) rfl (by decide) (Or.inr (nf_q327 hK.2)) rfl dX0_laysCosts_39 rfl ?_
    refine g_icmp_ge K 45 185 dX0_laysCosts_42 rfl (by decide) (fun _ => ?_) (fun _ => ?_)
    · exact gx_vret K hK hsh hr hlk dX0_laysCosts_185 rfl
    · refine g_iconst K (nI 0) ic_0 46 dX0_laysCosts_45 rfl ?_
      refine g_istore K [(0, .ref z), (2, .int (bI x2)), (3, .int j4.1), (4, .int (nI 0))] [1, 2, 3, 0] (by decide) rfl 48 dX0_laysCosts_46 rfl ?_
      refine g_lp (head := 48) (L := fun j7 => [(0, .ref z), (2, .int (bI x2)), (3, .int j4.1), (4, .int j7.1)]) (sf := fun j7 => []) (mf := fun j7 => (P, j7.2)) (fun again8 h9 j7 => ?_) fuel ((nI 0), j4.2)
      try dsimp only
      refine g_iload K 3 rfl 50 dX0_laysCosts_48 rfl ?_
      refine g_aloadn K 0 rfl rfl 51 dX0_laysCosts_50 rfl ?_
      refine gx_get K hK hsh 4 (v := .ref (z + 2)) 54 in_X0 hz rfl (Nat.le_of_ble_eq_true rfl) rfl (by decide) (Or.inl q411) rfl dX0_laysCosts_51 rfl ?_
      refine gx_get K hK hsh 14 (v := .int (j7.2 (z + 2) 14)) 57 in_X1 (sh_0_borough hsh hz) rfl (Nat.le_of_ble_eq_true rfl) rfl (by decide) (Or.inr (nf_q327 hK.2)) rfl dX0_laysCosts_54 rfl ?_
      refine g_icmp_ge K 60 179 dX0_laysCosts_57 rfl (by decide) (fun _ => ?_) (fun _ => ?_)
      · refine g_iinc K (j4.1 + (nI 1)) 2 [(0, .ref z), (2, .int (bI x2)), (3, .int (j4.1 + (nI 1)))] [1, 2, 0] rfl (by rw [ic_1]) (by decide) rfl 182 dX0_laysCosts_179 rfl ?_
        refine g_goto K 34 dX0_laysCosts_182 (by decide) ?_
        exact h6 ((j4.1 + (nI 1)), j7.2)
      · refine g_iconst K (nI 0) ic_0 61 dX0_laysCosts_60 rfl ?_
        refine g_istore K [(0, .ref z), (2, .int (bI x2)), (3, .int j4.1), (4, .int j7.1), (5, .int (nI 0))] [1, 2, 3, 4, 0] (by decide) rfl 63 dX0_laysCosts_61 rfl ?_
        refine g_lp (head := 63) (L := fun j10 => [(0, .ref z), (2, .int (bI x2)), (3, .int j4.1), (4, .int j7.1), (5, .int j10.1)]) (sf := fun j10 => []) (mf := fun j10 => (P, j10.2)) (fun again11 h12 j10 => ?_) fuel ((nI 0), j7.2)
        try dsimp only
        refine g_iload K 4 rfl 65 dX0_laysCosts_63 rfl ?_
        refine g_aloadn K 0 rfl rfl 66 dX0_laysCosts_65 rfl ?_
        refine gx_get K hK hsh 4 (v := .ref (z + 2)) 69 in_X0 hz rfl (Nat.le_of_ble_eq_true rfl) rfl (by decide) (Or.inl q411) rfl dX0_laysCosts_66 rfl ?_
        refine gx_get K hK hsh 14 (v := .int (j10.2 (z + 2) 14)) 72 in_X1 (sh_0_borough hsh hz) rfl (Nat.le_of_ble_eq_true rfl) rfl (by decide) (Or.inr (nf_q327 hK.2)) rfl dX0_laysCosts_69 rfl ?_
        refine g_icmp_ge K 75 173 dX0_laysCosts_72 rfl (by decide) (fun _ => ?_) (fun _ => ?_)
        · refine g_iinc K (j7.1 + (nI 1)) 3 [(0, .ref z), (2, .int (bI x2)), (3, .int j4.1), (4, .int (j7.1 + (nI 1)))] [1, 2, 3, 0] rfl (by rw [ic_1]) (by decide) rfl 176 dX0_laysCosts_173 rfl ?_
          refine g_goto K 48 dX0_laysCosts_176 (by decide) ?_
          exact h9 ((j7.1 + (nI 1)), j10.2)
        · refine g_aloadn K 0 rfl rfl 76 dX0_laysCosts_75 rfl ?_
          refine gx_get K hK hsh 10 (v := .ref (z + 2424)) 79 in_X0 hz rfl (Nat.le_of_ble_eq_true rfl) rfl (by decide) (Or.inl q418) rfl dX0_laysCosts_76 rfl ?_
          refine g_iload K 3 rfl 81 dX0_laysCosts_79 rfl ?_
          refine gx_ald K hK hsh 82 (sh_0_costTo hsh hz) dX0_laysCosts_81 rfl (fun v13 => ?_)
          refine g_ldcw K q1292 85 dX0_laysCosts_82 rfl ?_
          refine g_icmp_ge K 88 173 dX0_laysCosts_85 rfl (by decide) (fun _ => ?_) (fun _ => ?_)
          · refine g_iinc K (j7.1 + (nI 1)) 3 [(0, .ref z), (2, .int (bI x2)), (3, .int j4.1), (4, .int (j7.1 + (nI 1)))] [1, 2, 3, 0] rfl (by rw [ic_1]) (by decide) rfl 176 dX0_laysCosts_173 rfl ?_
            refine g_goto K 48 dX0_laysCosts_176 (by decide) ?_
            exact h9 ((j7.1 + (nI 1)), j10.2)
          · refine g_aloadn K 0 rfl rfl 89 dX0_laysCosts_88 rfl ?_
            refine gx_get K hK hsh 4 (v := .ref (z + 2)) 92 in_X0 hz rfl (Nat.le_of_ble_eq_true rfl) rfl (by decide) (Or.inl q411) rfl dX0_laysCosts_89 rfl ?_
            refine gx_getp K hK hsh 13 (20, 12, 0) 95 in_X1 (sh_0_borough hsh hz) rfl (Nat.le_of_ble_eq_true rfl) rfl (by decide) (Or.inr (nf_q324 hK.2)) rfl dX0_laysCosts_92 rfl (fun b14 hb15 => ?_)
            refine g_iload K 3 rfl 97 dX0_laysCosts_95 rfl ?_
            refine gx_ald K hK hsh 98 hb15 dX0_laysCosts_97 rfl (fun v16 => ?_)
            refine g_iload K 4 rfl 100 dX0_laysCosts_98 rfl ?_
            refine g_ishr K 101 dX0_laysCosts_100 rfl ?_
            refine g_iconst K (nI 1) ic_1 102 dX0_laysCosts_101 rfl ?_
            refine g_iand K 103 dX0_laysCosts_102 rfl ?_
            refine g_if_ne K 106 109 dX0_laysCosts_103 rfl (by decide) (fun _ => ?_) (fun _ => ?_)
            · refine g_goto K 167 dX0_laysCosts_106 (by decide) ?_
              refine g_iinc K (j10.1 + (nI 1)) 4 [(0, .ref z), (2, .int (bI x2)), (3, .int j4.1), (4, .int j7.1), (5, .int (j10.1 + (nI 1)))] [1, 2, 3, 4, 0] rfl (by rw [ic_1]) (by decide) rfl 170 dX0_laysCosts_167 rfl ?_
              refine g_goto K 63 dX0_laysCosts_170 (by decide) ?_
              exact h12 ((j10.1 + (nI 1)), j10.2)
            · refine g_aloadn K 0 rfl rfl 110 dX0_laysCosts_109 rfl ?_
              refine gx_get K hK hsh 10 (v := .ref (z + 2424)) 113 in_X0 hz rfl (Nat.le_of_ble_eq_true rfl) rfl (by decide) (Or.inl q418) rfl dX0_laysCosts_110 rfl ?_
              refine g_iload K 4 rfl 115 dX0_laysCosts_113 rfl ?_
              refine g_aloadn K 0 rfl rfl 116 dX0_laysCosts_115 rfl ?_
              refine gx_get K hK hsh 10 (v := .ref (z + 2424)) 119 in_X0 hz rfl (Nat.le_of_ble_eq_true rfl) rfl (by decide) (Or.inl q418) rfl dX0_laysCosts_116 rfl ?_
              refine g_iload K 4 rfl 121 dX0_laysCosts_119 rfl ?_
              refine gx_ald K hK hsh 122 (sh_0_costTo hsh hz) dX0_laysCosts_121 rfl (fun v17 => ?_)
              refine g_iloadn K 1 rfl rfl 123 dX0_laysCosts_122 rfl ?_
              refine g_jn (head := 163) (L := fun j18 => [(0, .ref z), (2, .int (bI x2)), (3, .int j4.1), (4, .int j7.1), (5, .int j10.1)]) (sf := fun j18 => [.int j18, .int v17, .int j10.1, .ref (z + 2424)]) (mf := fun j18 => (P, j10.2)) (fun j18 => ?_) (fun k19 h20 => ?_)
              · try dsimp only
                refine g_mmin K 166 q1219 q878 q159 q879 (by decide) (Nat.le_of_ble_eq_true rfl) dX0_laysCosts_163 rfl ?_
                refine gx_ast K hK hsh 167 (sh_0_costTo hsh hz) dX0_laysCosts_166 rfl (fun I21 => ?_)
                refine g_iinc K (j10.1 + (nI 1)) 4 [(0, .ref z), (2, .int (bI x2)), (3, .int j4.1), (4, .int j7.1), (5, .int (j10.1 + (nI 1)))] [1, 2, 3, 4, 0] rfl (by rw [ic_1]) (by decide) rfl 170 dX0_laysCosts_167 rfl ?_
                refine g_goto K 63 dX0_laysCosts_170 (by decide) ?_
                exact h12 ((j10.1 + (nI 1)), I21)
              · refine g_if_eq K 126 145 dX0_laysCosts_123 rfl (by decide) (fun _ => ?_) (fun _ => ?_)
                · refine g_aloadn K 0 rfl rfl 146 dX0_laysCosts_145 rfl ?_
                  refine gx_get K hK hsh 10 (v := .ref (z + 2424)) 149 in_X0 hz rfl (Nat.le_of_ble_eq_true rfl) rfl (by decide) (Or.inl q418) rfl dX0_laysCosts_146 rfl ?_
                  refine g_iload K 3 rfl 151 dX0_laysCosts_149 rfl ?_
                  refine gx_ald K hK hsh 152 (sh_0_costTo hsh hz) dX0_laysCosts_151 rfl (fun v22 => ?_)
                  refine g_aloadn K 0 rfl rfl 153 dX0_laysCosts_152 rfl ?_
                  refine g_iload K 3 rfl 155 dX0_laysCosts_153 rfl ?_
                  refine g_iload K 4 rfl 157 dX0_laysCosts_155 rfl ?_
                  refine gx_call K hK hsh 160 (ctx_x0_step P j10.2 j7.1 j10.1 hz) (lw_V q1293 q1295 qs42 q151 q1296) wd_x0_step hz rfl (Nat.le_of_ble_eq_true rfl) rfl (by decide) rfl (Nat.le_of_ble_eq_true rfl) dX0_laysCosts_157 rfl (fun r23 hr24 => ?_)
                  refine g_mmax K 163 q1220 q839 q159 q840 (by decide) (Nat.le_of_ble_eq_true rfl) dX0_laysCosts_160 rfl ?_
                  exact h20 (imax v22 r23)
                · refine g_aloadn K 0 rfl rfl 127 dX0_laysCosts_126 rfl ?_
                  refine gx_get K hK hsh 10 (v := .ref (z + 2424)) 130 in_X0 hz rfl (Nat.le_of_ble_eq_true rfl) rfl (by decide) (Or.inl q418) rfl dX0_laysCosts_127 rfl ?_
                  refine g_iload K 3 rfl 132 dX0_laysCosts_130 rfl ?_
                  refine gx_ald K hK hsh 133 (sh_0_costTo hsh hz) dX0_laysCosts_132 rfl (fun v25 => ?_)
                  refine g_aloadn K 0 rfl rfl 134 dX0_laysCosts_133 rfl ?_
                  refine g_iload K 3 rfl 136 dX0_laysCosts_134 rfl ?_
                  refine g_iload K 4 rfl 138 dX0_laysCosts_136 rfl ?_
                  refine gx_call K hK hsh 141 (ctx_x0_step P j10.2 j7.1 j10.1 hz) (lw_V q1293 q1295 qs42 q151 q1296) wd_x0_step hz rfl (Nat.le_of_ble_eq_true rfl) rfl (by decide) rfl (Nat.le_of_ble_eq_true rfl) dX0_laysCosts_138 rfl (fun r26 hr27 => ?_)
                  refine g_iadd K 142 dX0_laysCosts_141 rfl ?_
                  refine g_goto K 163 dX0_laysCosts_142 (by decide) ?_
                  exact h20 (v25 + r26)
  · refine g_lp (head := 2) (L := fun j28 => [(0, .ref z), (1, .int x1), (2, .int (bI x2)), (3, .int j28.1)]) (sf := fun j28 => []) (mf := fun j28 => (P, j28.2)) (fun again29 h30 j28 => ?_) fuel ((nI 0), I)
    try dsimp only
    refine g_iloadn K 3 rfl rfl 3 dX0_laysCosts_2 rfl ?_
    refine g_bipush K (nI 12) bp_12 5 dX0_laysCosts_3 rfl ?_
    refine g_icmp_ge K 8 32 dX0_laysCosts_5 rfl (by decide) (fun _ => ?_) (fun _ => ?_)
    · refine g_sub (ls' := [(0, .ref z), (2, .int (bI x2))]) [0, 2] rfl ?_
      exact h3 j28.2
    · refine g_aloadn K 0 rfl rfl 9 dX0_laysCosts_8 rfl ?_
      refine gx_get K hK hsh 10 (v := .ref (z + 2424)) 12 in_X0 hz rfl (Nat.le_of_ble_eq_true rfl) rfl (by decide) (Or.inl q418) rfl dX0_laysCosts_9 rfl ?_
      refine g_iloadn K 3 rfl rfl 13 dX0_laysCosts_12 rfl ?_
      refine g_iloadn K 3 rfl rfl 14 dX0_laysCosts_13 rfl ?_
      refine g_iloadn K 1 rfl rfl 15 dX0_laysCosts_14 rfl ?_
      refine g_jn (head := 25) (L := fun j31 => [(0, .ref z), (1, .int x1), (2, .int (bI x2)), (3, .int j28.1)]) (sf := fun j31 => [.int j31, .int j28.1, .ref (z + 2424)]) (mf := fun j31 => (P, j28.2)) (fun j31 => ?_) (fun k32 h33 => ?_)
      · try dsimp only
        refine gx_ast K hK hsh 26 (sh_0_costTo hsh hz) dX0_laysCosts_25 rfl (fun I34 => ?_)
        refine g_iinc K (j28.1 + (nI 1)) 3 [(0, .ref z), (1, .int x1), (2, .int (bI x2)), (3, .int (j28.1 + (nI 1)))] [1, 2, 3, 0] rfl (by rw [ic_1]) (by decide) rfl 29 dX0_laysCosts_26 rfl ?_
        refine g_goto K 2 dX0_laysCosts_29 (by decide) ?_
        exact h30 ((j28.1 + (nI 1)), I34)
      · refine g_icmp_ne K 18 22 dX0_laysCosts_15 rfl (by decide) (fun _ => ?_) (fun _ => ?_)
        · refine g_iconst K (nI 0) ic_0 19 dX0_laysCosts_18 rfl ?_
          refine g_goto K 25 dX0_laysCosts_19 (by decide) ?_
          exact h33 (nI 0)
        · refine g_ldcw K q1292 25 dX0_laysCosts_22 rfl ?_
          exact h33 (1000000 : Int32)
/-- GingerRents.cost(IIZ)I -/
def x0_cost (kd : Kd) (P : Ptr) (I : Mem) (z : Nat) (x1 : Int32) (x2 : Int32) (x3 : Bool) : Option (Int32 × Mem) :=
  (x0_isHouse I z x1).bind fun r1 =>
  if (bI r1) = 0 then
  some ((-1 : Int32), I)
  else
  (x0_isHouse I z x2).bind fun r3 =>
  if (bI r3) = 0 then
  some ((-1 : Int32), I)
  else
  (x0_laysCosts kd P I z x1 x3).bind fun r5 =>
  (rd r5 (z + 2424) 12 x2).bind fun v7 =>
  if v7 = (1000000 : Int32) then
  some ((-1 : Int32), r5)
  else
  (rd r5 (z + 2424) 12 x2).bind fun v8 =>
  some (v8, r5)
theorem wd_x0_cost : yX0_cost.cls = RX0 ∧ yX0_cost.cls ≠ "java/lang/invoke/MethodHandle" ∧ yX0_cost.cls ≠ "java/lang/invoke/VarHandle" ∧ (parseMethodDescriptor yX0_cost.desc).map (fun d => d.parameters.length) = some 3 := by decide +kernel
set_option maxRecDepth 100000 in
theorem ctx_x0_cost {cs : Cs} {z : Nat} {kd : Kd} (P : Ptr) (I : Mem) (x1 : Int32) (x2 : Int32) (x3 : Bool) (hz : kd z = (0, 0, 0)) : CtX cs z kd yX0_cost cX0_cost 4 (some .int) 3 72 [.ref z, .int x1, .int x2, .int (bI x3)] (P, I) (fun r => (some (.int r.1), (P, r.2))) (x0_cost kd P I z x1 x2 x3) := by
  refine CtX.of RX0 (by decide) rfl (Nat.le_of_ble_eq_true rfl) ?_
  intro l D sz p e s m args below meth c hsh K hr hlk hK
  refine g_sub (ls' := [(0, .ref z), (1, .int x1), (2, .int x2), (3, .int (bI x3))]) [0, 1, 2, 3] rfl ?_
  unfold x0_cost
  refine g_aloadn K 0 rfl rfl 1 dX0_cost_0 rfl ?_
  refine g_iloadn K 1 rfl rfl 2 dX0_cost_1 rfl ?_
  refine gx_call K hK hsh 5 (ctx_x0_isHouse P I x1 hz) (lw_V q1020 q1022 qs31 q151 q1023) wd_x0_isHouse hz rfl (Nat.le_of_ble_eq_true rfl) rfl (by decide) rfl (Nat.le_of_ble_eq_true rfl) dX0_cost_2 rfl (fun r1 hr2 => ?_)
  refine g_if_eq K 8 16 dX0_cost_5 rfl (by decide) (fun _ => ?_) (fun _ => ?_)
  · refine g_iconst K (-1 : Int32) ic_m1 17 dX0_cost_16 rfl ?_
    exact gx_iret K hK hsh hr hlk dX0_cost_17 rfl
  · refine g_aloadn K 0 rfl rfl 9 dX0_cost_8 rfl ?_
    refine g_iloadn K 2 rfl rfl 10 dX0_cost_9 rfl ?_
    refine gx_call K hK hsh 13 (ctx_x0_isHouse P I x2 hz) (lw_V q1020 q1022 qs31 q151 q1023) wd_x0_isHouse hz rfl (Nat.le_of_ble_eq_true rfl) rfl (by decide) rfl (Nat.le_of_ble_eq_true rfl) dX0_cost_10 rfl (fun r3 hr4 => ?_)
    refine g_if_ne K 16 18 dX0_cost_13 rfl (by decide) (fun _ => ?_) (fun _ => ?_)
    · refine g_iconst K (-1 : Int32) ic_m1 17 dX0_cost_16 rfl ?_
      exact gx_iret K hK hsh hr hlk dX0_cost_17 rfl
    · refine g_aloadn K 0 rfl rfl 19 dX0_cost_18 rfl ?_
      refine g_iloadn K 1 rfl rfl 20 dX0_cost_19 rfl ?_
      refine g_iloadn K 3 rfl rfl 21 dX0_cost_20 rfl ?_
      refine gx_call K hK hsh 24 (ctx_x0_laysCosts P I x1 x3 hz) (lw_V q1288 q1290 qs41 q151 q1291) wd_x0_laysCosts hz rfl (Nat.le_of_ble_eq_true rfl) rfl (by decide) rfl (Nat.le_of_ble_eq_true rfl) dX0_cost_21 rfl (fun r5 hr6 => ?_)
      refine g_aloadn K 0 rfl rfl 25 dX0_cost_24 rfl ?_
      refine gx_get K hK hsh 10 (v := .ref (z + 2424)) 28 in_X0 hz rfl (Nat.le_of_ble_eq_true rfl) rfl (by decide) (Or.inl q418) rfl dX0_cost_25 rfl ?_
      refine g_iloadn K 2 rfl rfl 29 dX0_cost_28 rfl ?_
      refine gx_ald K hK hsh 30 (sh_0_costTo hsh hz) dX0_cost_29 rfl (fun v7 => ?_)
      refine g_ldcw K q1292 33 dX0_cost_30 rfl ?_
      refine g_icmp_ne K 36 40 dX0_cost_33 rfl (by decide) (fun _ => ?_) (fun _ => ?_)
      · refine g_iconst K (-1 : Int32) ic_m1 37 dX0_cost_36 rfl ?_
        refine g_goto K 46 dX0_cost_37 (by decide) ?_
        exact gx_iret K hK hsh hr hlk dX0_cost_46 rfl
      · refine g_aloadn K 0 rfl rfl 41 dX0_cost_40 rfl ?_
        refine gx_get K hK hsh 10 (v := .ref (z + 2424)) 44 in_X0 hz rfl (Nat.le_of_ble_eq_true rfl) rfl (by decide) (Or.inl q418) rfl dX0_cost_41 rfl ?_
        refine g_iloadn K 2 rfl rfl 45 dX0_cost_44 rfl ?_
        refine gx_ald K hK hsh 46 (sh_0_costTo hsh hz) dX0_cost_45 rfl (fun v8 => ?_)
        exact gx_iret K hK hsh hr hlk dX0_cost_46 rfl
/-- GingerRents.hears(II)I -/
def x0_hears (kd : Kd) (P : Ptr) (I : Mem) (z : Nat) (x1 : Int32) (x2 : Int32) : Option (Int32 × Mem) :=
  (x0_cost kd P I z x1 x2 false).bind fun r1 =>
  some (r1.1, r1.2)
theorem wd_x0_hears : yX0_hears.cls = RX0 ∧ yX0_hears.cls ≠ "java/lang/invoke/MethodHandle" ∧ yX0_hears.cls ≠ "java/lang/invoke/VarHandle" ∧ (parseMethodDescriptor yX0_hears.desc).map (fun d => d.parameters.length) = some 2 := by decide +kernel
set_option maxRecDepth 100000 in
theorem ctx_x0_hears {cs : Cs} {z : Nat} {kd : Kd} (P : Ptr) (I : Mem) (x1 : Int32) (x2 : Int32) (hz : kd z = (0, 0, 0)) : CtX cs z kd yX0_hears cX0_hears 3 (some .int) 4 95 [.ref z, .int x1, .int x2] (P, I) (fun r => (some (.int r.1), (P, r.2))) (x0_hears kd P I z x1 x2) := by
  refine CtX.of RX0 (by decide) rfl (Nat.le_of_ble_eq_true rfl) ?_
  intro l D sz p e s m args below meth c hsh K hr hlk hK
  refine g_sub (ls' := [(0, .ref z), (1, .int x1), (2, .int x2)]) [0, 1, 2] rfl ?_
  unfold x0_hears
  refine g_aloadn K 0 rfl rfl 1 dX0_hears_0 rfl ?_
  refine g_iloadn K 1 rfl rfl 2 dX0_hears_1 rfl ?_
  refine g_iloadn K 2 rfl rfl 3 dX0_hears_2 rfl ?_
  refine g_iconst K (nI 0) ic_0 4 dX0_hears_3 rfl ?_
  refine gx_call K hK hsh 7 (ctx_x0_cost P I x1 x2 false hz) (lw_V q1284 q1286 qs40 q151 q1287) wd_x0_cost hz rfl (Nat.le_of_ble_eq_true rfl) rfl (by decide) rfl (Nat.le_of_ble_eq_true rfl) dX0_hears_4 rfl (fun r1 hr2 => ?_)
  exact gx_iret K hK hsh hr hlk dX0_hears_7 rfl
/-- GingerRents.ants(II)I -/
def x0_ants (kd : Kd) (P : Ptr) (I : Mem) (z : Nat) (x1 : Int32) (x2 : Int32) : Option (Int32 × Mem) :=
  (x0_cost kd P I z x1 x2 true).bind fun r1 =>
  some (r1.1, r1.2)
theorem wd_x0_ants : yX0_ants.cls = RX0 ∧ yX0_ants.cls ≠ "java/lang/invoke/MethodHandle" ∧ yX0_ants.cls ≠ "java/lang/invoke/VarHandle" ∧ (parseMethodDescriptor yX0_ants.desc).map (fun d => d.parameters.length) = some 2 := by decide +kernel
set_option maxRecDepth 100000 in
theorem ctx_x0_ants {cs : Cs} {z : Nat} {kd : Kd} (P : Ptr) (I : Mem) (x1 : Int32) (x2 : Int32) (hz : kd z = (0, 0, 0)) : CtX cs z kd yX0_ants cX0_ants 3 (some .int) 4 95 [.ref z, .int x1, .int x2] (P, I) (fun r => (some (.int r.1), (P, r.2))) (x0_ants kd P I z x1 x2) := by
  refine CtX.of RX0 (by decide) rfl (Nat.le_of_ble_eq_true rfl) ?_
  intro l D sz p e s m args below meth c hsh K hr hlk hK
  refine g_sub (ls' := [(0, .ref z), (1, .int x1), (2, .int x2)]) [0, 1, 2] rfl ?_
  unfold x0_ants
  refine g_aloadn K 0 rfl rfl 1 dX0_ants_0 rfl ?_
  refine g_iloadn K 1 rfl rfl 2 dX0_ants_1 rfl ?_
  refine g_iloadn K 2 rfl rfl 3 dX0_ants_2 rfl ?_
  refine g_iconst K (nI 1) ic_1 4 dX0_ants_3 rfl ?_
  refine gx_call K hK hsh 7 (ctx_x0_cost P I x1 x2 true hz) (lw_V q1284 q1286 qs40 q151 q1287) wd_x0_cost hz rfl (Nat.le_of_ble_eq_true rfl) rfl (by decide) rfl (Nat.le_of_ble_eq_true rfl) dX0_ants_4 rfl (fun r1 hr2 => ?_)
  exact gx_iret K hK hsh hr hlk dX0_ants_7 rfl
/-- GingerRents.heard(II)I -/
def x0_heard (kd : Kd) (P : Ptr) (I : Mem) (z : Nat) (x1 : Int32) (x2 : Int32) : Option (Int32 × Mem) :=
  (x0_isHouse I z x1).bind fun r1 =>
  if (bI r1) = 0 then
  some ((-1 : Int32), I)
  else
  (x0_isIn x2 (nI 0) (nI 800)).bind fun r3 =>
  if (bI r3) = 0 then
  some ((-1 : Int32), I)
  else
  (x0_laysCosts kd P I z x1 false).bind fun r4 =>
  lp (fun again7 (j6 : Int32 × Int32) =>
  if (r4 (z + 2) 14) ≤ j6.2 then
  some (j6.1, r4)
  else
  jn (fun (j9 : Int32) =>
  again7 ((j6.1 + j9), (j6.2 + (nI 1)))) (fun k10 =>
  if j6.2 = x1 then
  k10 (nI 0)
  else
  (rd r4 (z + 2424) 12 j6.2).bind fun v12 =>
  if x2 < v12 then
  k10 (nI 0)
  else
  k10 (nI 1))) fuel ((nI 0), (nI 0))
theorem wd_x0_heard : yX0_heard.cls = RX0 ∧ yX0_heard.cls ≠ "java/lang/invoke/MethodHandle" ∧ yX0_heard.cls ≠ "java/lang/invoke/VarHandle" ∧ (parseMethodDescriptor yX0_heard.desc).map (fun d => d.parameters.length) = some 2 := by decide +kernel
set_option maxRecDepth 100000 in
theorem ctx_x0_heard {cs : Cs} {z : Nat} {kd : Kd} (P : Ptr) (I : Mem) (x1 : Int32) (x2 : Int32) (hz : kd z = (0, 0, 0)) : CtX cs z kd yX0_heard cX0_heard 5 (some .int) 3 72 [.ref z, .int x1, .int x2] (P, I) (fun r => (some (.int r.1), (P, r.2))) (x0_heard kd P I z x1 x2) := by
  refine CtX.of RX0 (by decide) rfl (Nat.le_of_ble_eq_true rfl) ?_
  intro l D sz p e s m args below meth c hsh K hr hlk hK
  refine g_sub (ls' := [(0, .ref z), (1, .int x1), (2, .int x2)]) [0, 1, 2] rfl ?_
  unfold x0_heard
  refine g_aloadn K 0 rfl rfl 1 dX0_heard_0 rfl ?_
  refine g_iloadn K 1 rfl rfl 2 dX0_heard_1 rfl ?_
  refine gx_call K hK hsh 5 (ctx_x0_isHouse P I x1 hz) (lw_V q1020 q1022 qs31 q151 q1023) wd_x0_isHouse hz rfl (Nat.le_of_ble_eq_true rfl) rfl (by decide) rfl (Nat.le_of_ble_eq_true rfl) dX0_heard_2 rfl (fun r1 hr2 => ?_)
  refine g_if_eq K 8 19 dX0_heard_5 rfl (by decide) (fun _ => ?_) (fun _ => ?_)
  · refine g_iconst K (-1 : Int32) ic_m1 20 dX0_heard_19 rfl ?_
    exact gx_iret K hK hsh hr hlk dX0_heard_20 rfl
  · refine g_iloadn K 2 rfl rfl 9 dX0_heard_8 rfl ?_
    refine g_iconst K (nI 0) ic_0 10 dX0_heard_9 rfl ?_
    refine g_sipush K (nI 800) sp_800 13 dX0_heard_10 rfl ?_
    refine g_callS K 16 (cts_x0_isIn x2 (nI 0) (nI 800)) (lw_S q478 q479 q151 q480) wds_x0_isIn (by decide) rfl (Nat.le_of_ble_eq_true rfl) dX0_heard_13 rfl (fun r3 _ => ?_)
    refine g_if_ne K 19 21 dX0_heard_16 rfl (by decide) (fun _ => ?_) (fun _ => ?_)
    · refine g_iconst K (-1 : Int32) ic_m1 20 dX0_heard_19 rfl ?_
      exact gx_iret K hK hsh hr hlk dX0_heard_20 rfl
    · refine g_aloadn K 0 rfl rfl 22 dX0_heard_21 rfl ?_
      refine g_iloadn K 1 rfl rfl 23 dX0_heard_22 rfl ?_
      refine g_iconst K (nI 0) ic_0 24 dX0_heard_23 rfl ?_
      refine gx_call K hK hsh 27 (ctx_x0_laysCosts P I x1 false hz) (lw_V q1288 q1290 qs41 q151 q1291) wd_x0_laysCosts hz rfl (Nat.le_of_ble_eq_true rfl) rfl (by decide) rfl (Nat.le_of_ble_eq_true rfl) dX0_heard_24 rfl (fun r4 hr5 => ?_)
      refine g_iconst K (nI 0) ic_0 28 dX0_heard_27 rfl ?_
      refine g_istoren K [(0, .ref z), (1, .int x1), (2, .int x2), (3, .int (nI 0))] [1, 2, 3, 0] rfl (by decide) rfl 29 dX0_heard_28 rfl ?_
      refine g_iconst K (nI 0) ic_0 30 dX0_heard_29 rfl ?_
      refine g_istore K [(0, .ref z), (1, .int x1), (2, .int x2), (3, .int (nI 0)), (4, .int (nI 0))] [1, 2, 3, 4, 0] (by decide) rfl 32 dX0_heard_30 rfl ?_
      refine g_lp (head := 32) (L := fun j6 => [(0, .ref z), (1, .int x1), (2, .int x2), (3, .int j6.1), (4, .int j6.2)]) (sf := fun j6 => []) (mf := fun j6 => (P, r4)) (fun again7 h8 j6 => ?_) fuel ((nI 0), (nI 0))
      try dsimp only
      refine g_iload K 4 rfl 34 dX0_heard_32 rfl ?_
      refine g_aloadn K 0 rfl rfl 35 dX0_heard_34 rfl ?_
      refine gx_get K hK hsh 4 (v := .ref (z + 2)) 38 in_X0 hz rfl (Nat.le_of_ble_eq_true rfl) rfl (by decide) (Or.inl q411) rfl dX0_heard_35 rfl ?_
      refine gx_get K hK hsh 14 (v := .int (r4 (z + 2) 14)) 41 in_X1 (sh_0_borough hsh hz) rfl (Nat.le_of_ble_eq_true rfl) rfl (by decide) (Or.inr (nf_q327 hK.2)) rfl dX0_heard_38 rfl ?_
      refine g_icmp_ge K 44 75 dX0_heard_41 rfl (by decide) (fun _ => ?_) (fun _ => ?_)
      · refine g_iloadn K 3 rfl rfl 76 dX0_heard_75 rfl ?_
        exact gx_iret K hK hsh hr hlk dX0_heard_76 rfl
      · refine g_iloadn K 3 rfl rfl 45 dX0_heard_44 rfl ?_
        refine g_iload K 4 rfl 47 dX0_heard_45 rfl ?_
        refine g_iloadn K 1 rfl rfl 48 dX0_heard_47 rfl ?_
        refine g_jn (head := 67) (L := fun j9 => [(0, .ref z), (1, .int x1), (2, .int x2), (4, .int j6.2)]) (sf := fun j9 => [.int j9, .int j6.1]) (mf := fun j9 => (P, r4)) (fun j9 => ?_) (fun k10 h11 => ?_)
        · try dsimp only
          refine g_iadd K 68 dX0_heard_67 rfl ?_
          refine g_istoren K [(0, .ref z), (1, .int x1), (2, .int x2), (3, .int (j6.1 + j9)), (4, .int j6.2)] [1, 2, 3, 0, 4] rfl (by decide) rfl 69 dX0_heard_68 rfl ?_
          refine g_iinc K (j6.2 + (nI 1)) 4 [(0, .ref z), (1, .int x1), (2, .int x2), (3, .int (j6.1 + j9)), (4, .int (j6.2 + (nI 1)))] [1, 2, 3, 4, 0] rfl (by rw [ic_1]) (by decide) rfl 72 dX0_heard_69 rfl ?_
          refine g_goto K 32 dX0_heard_72 (by decide) ?_
          exact h8 ((j6.1 + j9), (j6.2 + (nI 1)))
        · refine g_icmp_eq K 51 66 dX0_heard_48 rfl (by decide) (fun _ => ?_) (fun _ => ?_)
          · refine g_iconst K (nI 0) ic_0 67 dX0_heard_66 rfl ?_
            refine g_sub (ls' := [(0, .ref z), (1, .int x1), (2, .int x2), (4, .int j6.2)]) [0, 1, 2, 4] rfl ?_
            exact h11 (nI 0)
          · refine g_aloadn K 0 rfl rfl 52 dX0_heard_51 rfl ?_
            refine gx_get K hK hsh 10 (v := .ref (z + 2424)) 55 in_X0 hz rfl (Nat.le_of_ble_eq_true rfl) rfl (by decide) (Or.inl q418) rfl dX0_heard_52 rfl ?_
            refine g_iload K 4 rfl 57 dX0_heard_55 rfl ?_
            refine gx_ald K hK hsh 58 (sh_0_costTo hsh hz) dX0_heard_57 rfl (fun v12 => ?_)
            refine g_iloadn K 2 rfl rfl 59 dX0_heard_58 rfl ?_
            refine g_icmp_gt K 62 66 dX0_heard_59 rfl (by decide) (fun _ => ?_) (fun _ => ?_)
            · refine g_iconst K (nI 0) ic_0 67 dX0_heard_66 rfl ?_
              refine g_sub (ls' := [(0, .ref z), (1, .int x1), (2, .int x2), (4, .int j6.2)]) [0, 1, 2, 4] rfl ?_
              exact h11 (nI 0)
            · refine g_iconst K (nI 1) ic_1 63 dX0_heard_62 rfl ?_
              refine g_goto K 67 dX0_heard_63 (by decide) ?_
              refine g_sub (ls' := [(0, .ref z), (1, .int x1), (2, .int x2), (4, .int j6.2)]) [0, 1, 2, 4] rfl ?_
              exact h11 (nI 1)
/-- GingerRents.piece(I)I -/
def x0_piece (I : Mem) (z : Nat) (x1 : Int32) : Option (Int32 × Mem) :=
  if x1 = (-1 : Int32) then
  (x2_ends I (z + 155) 9).bind fun r4 =>
  some (r4.1, r4.2)
  else
  (x0_isIn x1 (nI 0) (nI 99)).bind fun r1 =>
  if (bI r1) = 0 then
  some ((-1 : Int32), I)
  else
  (x2_tells I (z + 155) 9 x1 (nI 0)).bind fun r2 =>
  some (r2.1, r2.2)
theorem wd_x0_piece : yX0_piece.cls = RX0 ∧ yX0_piece.cls ≠ "java/lang/invoke/MethodHandle" ∧ yX0_piece.cls ≠ "java/lang/invoke/VarHandle" ∧ (parseMethodDescriptor yX0_piece.desc).map (fun d => d.parameters.length) = some 1 := by decide +kernel
set_option maxRecDepth 100000 in
theorem ctx_x0_piece {cs : Cs} {z : Nat} {kd : Kd} (P : Ptr) (I : Mem) (x1 : Int32) (hz : kd z = (0, 0, 0)) : CtX cs z kd yX0_piece cX0_piece 2 (some .int) 1 22 [.ref z, .int x1] (P, I) (fun r => (some (.int r.1), (P, r.2))) (x0_piece I z x1) := by
  refine CtX.of RX0 (by decide) rfl (Nat.le_of_ble_eq_true rfl) ?_
  intro l D sz p e s m args below meth c hsh K hr hlk hK
  refine g_sub (ls' := [(0, .ref z), (1, .int x1)]) [0, 1] rfl ?_
  unfold x0_piece
  refine g_iloadn K 1 rfl rfl 1 dX0_piece_0 rfl ?_
  refine g_iconst K (-1 : Int32) ic_m1 2 dX0_piece_1 rfl ?_
  refine g_icmp_ne K 5 18 dX0_piece_2 rfl (by decide) (fun _ => ?_) (fun _ => ?_)
  · refine g_aloadn K 0 rfl rfl 6 dX0_piece_5 rfl ?_
    refine gx_get K hK hsh 4 (v := .ref (z + 2)) 9 in_X0 hz rfl (Nat.le_of_ble_eq_true rfl) rfl (by decide) (Or.inl q411) rfl dX0_piece_6 rfl ?_
    refine gx_get K hK hsh 2 (v := .ref (z + 155)) 12 in_X1 (sh_0_borough hsh hz) rfl (Nat.le_of_ble_eq_true rfl) rfl (by decide) (Or.inr (nf_q302 hK.2)) rfl dX0_piece_9 rfl ?_
    refine gx_call K hK hsh 15 (ctx_x2_ends P I (z + 155) 9 (sh_1_pieces hsh (sh_0_borough hsh hz))) (lw_V q1310 q1311 q1312 q153 q1313) wd_x2_ends (sh_1_pieces hsh (sh_0_borough hsh hz)) rfl (Nat.le_of_ble_eq_true rfl) rfl (by decide) rfl (Nat.le_of_ble_eq_true rfl) dX0_piece_12 rfl (fun r4 hr5 => ?_)
    refine g_goto K 44 dX0_piece_15 (by decide) ?_
    exact gx_iret K hK hsh hr hlk dX0_piece_44 rfl
  · refine g_iloadn K 1 rfl rfl 19 dX0_piece_18 rfl ?_
    refine g_iconst K (nI 0) ic_0 20 dX0_piece_19 rfl ?_
    refine g_bipush K (nI 99) bp_99 22 dX0_piece_20 rfl ?_
    refine g_callS K 25 (cts_x0_isIn x1 (nI 0) (nI 99)) (lw_S q478 q479 q151 q480) wds_x0_isIn (by decide) rfl (Nat.le_of_ble_eq_true rfl) dX0_piece_22 rfl (fun r1 _ => ?_)
    refine g_if_eq K 28 43 dX0_piece_25 rfl (by decide) (fun _ => ?_) (fun _ => ?_)
    · refine g_iconst K (-1 : Int32) ic_m1 44 dX0_piece_43 rfl ?_
      exact gx_iret K hK hsh hr hlk dX0_piece_44 rfl
    · refine g_aloadn K 0 rfl rfl 29 dX0_piece_28 rfl ?_
      refine gx_get K hK hsh 4 (v := .ref (z + 2)) 32 in_X0 hz rfl (Nat.le_of_ble_eq_true rfl) rfl (by decide) (Or.inl q411) rfl dX0_piece_29 rfl ?_
      refine gx_get K hK hsh 2 (v := .ref (z + 155)) 35 in_X1 (sh_0_borough hsh hz) rfl (Nat.le_of_ble_eq_true rfl) rfl (by decide) (Or.inr (nf_q302 hK.2)) rfl dX0_piece_32 rfl ?_
      refine g_iloadn K 1 rfl rfl 36 dX0_piece_35 rfl ?_
      refine g_iconst K (nI 0) ic_0 37 dX0_piece_36 rfl ?_
      refine gx_call K hK hsh 40 (ctx_x2_tells P I (z + 155) 9 x1 (nI 0) (sh_1_pieces hsh (sh_0_borough hsh hz))) (lw_V q1314 q1315 q1316 q153 q1317) wd_x2_tells (sh_1_pieces hsh (sh_0_borough hsh hz)) rfl (Nat.le_of_ble_eq_true rfl) rfl (by decide) rfl (Nat.le_of_ble_eq_true rfl) dX0_piece_37 rfl (fun r2 hr3 => ?_)
      refine g_goto K 44 dX0_piece_40 (by decide) ?_
      exact gx_iret K hK hsh hr hlk dX0_piece_44 rfl
/-- GingerRents.share(II)I -/
def x0_share (I : Mem) (z : Nat) (x1 : Int32) (x2 : Int32) : Option (Int32) :=
  lp (fun again2 (j1 : Int32 × Int32) =>
  if x2 ≤ j1.2 then
  some j1.1
  else
  (x2_first I (z + 155) 9 j1.2).bind fun r4 =>
  again2 ((j1.1 + r4), (j1.2 + (nI 1)))) fuel ((nI 0), x1)
theorem wd_x0_share : yX0_share.cls = RX0 ∧ yX0_share.cls ≠ "java/lang/invoke/MethodHandle" ∧ yX0_share.cls ≠ "java/lang/invoke/VarHandle" ∧ (parseMethodDescriptor yX0_share.desc).map (fun d => d.parameters.length) = some 2 := by decide +kernel
set_option maxRecDepth 100000 in
theorem ctx_x0_share {cs : Cs} {z : Nat} {kd : Kd} (P : Ptr) (I : Mem) (x1 : Int32) (x2 : Int32) (hz : kd z = (0, 0, 0)) : CtX cs z kd yX0_share cX0_share 5 (some .int) 1 21 [.ref z, .int x1, .int x2] (P, I) (fun r => (some (.int r), (P, I))) (x0_share I z x1 x2) := by
  refine CtX.of RX0 (by decide) rfl (Nat.le_of_ble_eq_true rfl) ?_
  intro l D sz p e s m args below meth c hsh K hr hlk hK
  refine g_sub (ls' := [(0, .ref z), (1, .int x1), (2, .int x2)]) [0, 1, 2] rfl ?_
  unfold x0_share
  refine g_iconst K (nI 0) ic_0 1 dX0_share_0 rfl ?_
  refine g_istoren K [(0, .ref z), (1, .int x1), (2, .int x2), (3, .int (nI 0))] [1, 2, 3, 0] rfl (by decide) rfl 2 dX0_share_1 rfl ?_
  refine g_iloadn K 1 rfl rfl 3 dX0_share_2 rfl ?_
  refine g_istore K [(0, .ref z), (2, .int x2), (3, .int (nI 0)), (4, .int x1)] [1, 3, 4, 0] (by decide) rfl 5 dX0_share_3 rfl ?_
  refine g_lp (head := 5) (L := fun j1 => [(0, .ref z), (2, .int x2), (3, .int j1.1), (4, .int j1.2)]) (sf := fun j1 => []) (mf := fun j1 => (P, I)) (fun again2 h3 j1 => ?_) fuel ((nI 0), x1)
  try dsimp only
  refine g_iload K 3 rfl 7 dX0_share_5 rfl ?_
  refine g_iloadn K 1 rfl rfl 8 dX0_share_7 rfl ?_
  refine g_icmp_ge K 11 32 dX0_share_8 rfl (by decide) (fun _ => ?_) (fun _ => ?_)
  · refine g_iloadn K 2 rfl rfl 33 dX0_share_32 rfl ?_
    exact gx_iret K hK hsh hr hlk dX0_share_33 rfl
  · refine g_iloadn K 2 rfl rfl 12 dX0_share_11 rfl ?_
    refine g_aloadn K 0 rfl rfl 13 dX0_share_12 rfl ?_
    refine gx_get K hK hsh 4 (v := .ref (z + 2)) 16 in_X0 hz rfl (Nat.le_of_ble_eq_true rfl) rfl (by decide) (Or.inl q411) rfl dX0_share_13 rfl ?_
    refine gx_get K hK hsh 2 (v := .ref (z + 155)) 19 in_X1 (sh_0_borough hsh hz) rfl (Nat.le_of_ble_eq_true rfl) rfl (by decide) (Or.inr (nf_q302 hK.2)) rfl dX0_share_16 rfl ?_
    refine g_iload K 3 rfl 21 dX0_share_19 rfl ?_
    refine gx_call K hK hsh 24 (ctx_x2_first P I (z + 155) 9 j1.2 (sh_1_pieces hsh (sh_0_borough hsh hz))) (lw_V q1330 q1331 q1332 q153 q1333) wd_x2_first (sh_1_pieces hsh (sh_0_borough hsh hz)) rfl (Nat.le_of_ble_eq_true rfl) rfl (by decide) rfl (Nat.le_of_ble_eq_true rfl) dX0_share_21 rfl (fun r4 hr5 => ?_)
    refine g_iadd K 25 dX0_share_24 rfl ?_
    refine g_istoren K [(0, .ref z), (2, .int x2), (3, .int (j1.1 + r4)), (4, .int j1.2)] [1, 2, 0, 3] rfl (by decide) rfl 26 dX0_share_25 rfl ?_
    refine g_iinc K (j1.2 + (nI 1)) 3 [(0, .ref z), (2, .int x2), (3, .int (j1.1 + r4)), (4, .int (j1.2 + (nI 1)))] [1, 2, 3, 0] rfl (by rw [ic_1]) (by decide) rfl 29 dX0_share_26 rfl ?_
    refine g_goto K 5 dX0_share_29 (by decide) ?_
    exact h3 ((j1.1 + r4), (j1.2 + (nI 1)))
/-- GingerRents.laysShares(I)V -/
def x0_laysShares (I : Mem) (z : Nat) (x1 : Int32) : Option (Mem) :=
  lp (fun again2 (j1 : Int32 × Mem) =>
  if x1 < j1.1 then
  some j1.2
  else
  lp (fun again5 (j4 : Int32 × Mem) =>
  if (I (z + 155) 1) < j4.1 then
  again2 ((j1.1 + (nI 1)), j4.2)
  else
  (ix 10 j1.1).bind fun i7 =>
  jn (fun (j9 : Int32) =>
  (wr j4.2 (z + 2426 + i7) 10 j4.1 j9).bind fun I12 =>
  lp (fun again14 (j13 : Int32 × Mem) =>
  if (I (z + 155) 1) < j13.1 then
  again5 ((j4.1 + (nI 1)), j13.2)
  else
  if j1.1 ≤ 0 then
  again5 ((j4.1 + (nI 1)), j13.2)
  else
  (ix 10 j1.1).bind fun i16 =>
  (ix 10 j1.1).bind fun i18 =>
  (rd j13.2 (z + 2426 + i18) 10 j4.1).bind fun v20 =>
  (x0_share j13.2 z j4.1 j13.1).bind fun r21 =>
  (ix 10 (j1.1 - (nI 1))).bind fun i23 =>
  (rd j13.2 (z + 2426 + i23) 10 j13.1).bind fun v25 =>
  (wr j13.2 (z + 2426 + i16) 10 j4.1 (imax v20 (imin r21 v25))).bind fun I26 =>
  again14 ((j13.1 + (nI 1)), I26)) fuel ((j4.1 + (nI 1)), I12)) (fun k10 =>
  if j1.1 = 0 then
  if j4.1 = (I (z + 155) 1) then
  k10 (1000000 : Int32)
  else
  k10 (-1 : Int32)
  else
  k10 (-1 : Int32))) fuel ((nI 0), j1.2)) fuel ((nI 0), I)
theorem wd_x0_laysShares : yX0_laysShares.cls = RX0 ∧ yX0_laysShares.cls ≠ "java/lang/invoke/MethodHandle" ∧ yX0_laysShares.cls ≠ "java/lang/invoke/VarHandle" ∧ (parseMethodDescriptor yX0_laysShares.desc).map (fun d => d.parameters.length) = some 1 := by decide +kernel
set_option maxRecDepth 100000 in
theorem ctx_x0_laysShares {cs : Cs} {z : Nat} {kd : Kd} (P : Ptr) (I : Mem) (x1 : Int32) (hz : kd z = (0, 0, 0)) : CtX cs z kd yX0_laysShares cX0_laysShares 6 none 2 45 [.ref z, .int x1] (P, I) (fun r => (none, (P, r))) (x0_laysShares I z x1) := by
  refine CtX.of RX0 (by decide) rfl (Nat.le_of_ble_eq_true rfl) ?_
  intro l D sz p e s m args below meth c hsh K hr hlk hK
  refine g_sub (ls' := [(0, .ref z), (1, .int x1)]) [0, 1] rfl ?_
  unfold x0_laysShares
  refine g_aloadn K 0 rfl rfl 1 dX0_laysShares_0 rfl ?_
  refine gx_get K hK hsh 4 (v := .ref (z + 2)) 4 in_X0 hz rfl (Nat.le_of_ble_eq_true rfl) rfl (by decide) (Or.inl q411) rfl dX0_laysShares_1 rfl ?_
  refine gx_get K hK hsh 2 (v := .ref (z + 155)) 7 in_X1 (sh_0_borough hsh hz) rfl (Nat.le_of_ble_eq_true rfl) rfl (by decide) (Or.inr (nf_q302 hK.2)) rfl dX0_laysShares_4 rfl ?_
  refine gx_get K hK hsh 1 (v := .int (I (z + 155) 1)) 10 in_X2 (sh_1_pieces hsh (sh_0_borough hsh hz)) rfl (Nat.le_of_ble_eq_true rfl) rfl (by decide) (Or.inr (nf_q213 hK.2)) rfl dX0_laysShares_7 rfl ?_
  refine g_istoren K [(0, .ref z), (1, .int x1), (2, .int (I (z + 155) 1))] [1, 2, 0] rfl (by decide) rfl 11 dX0_laysShares_10 rfl ?_
  refine g_iconst K (nI 0) ic_0 12 dX0_laysShares_11 rfl ?_
  refine g_istoren K [(0, .ref z), (1, .int x1), (2, .int (I (z + 155) 1)), (3, .int (nI 0))] [1, 2, 3, 0] rfl (by decide) rfl 13 dX0_laysShares_12 rfl ?_
  refine g_lp (head := 13) (L := fun j1 => [(0, .ref z), (1, .int x1), (2, .int (I (z + 155) 1)), (3, .int j1.1)]) (sf := fun j1 => []) (mf := fun j1 => (P, j1.2)) (fun again2 h3 j1 => ?_) fuel ((nI 0), I)
  try dsimp only
  refine g_iloadn K 3 rfl rfl 14 dX0_laysShares_13 rfl ?_
  refine g_iloadn K 1 rfl rfl 15 dX0_laysShares_14 rfl ?_
  refine g_icmp_gt K 18 130 dX0_laysShares_15 rfl (by decide) (fun _ => ?_) (fun _ => ?_)
  · exact gx_vret K hK hsh hr hlk dX0_laysShares_130 rfl
  · refine g_iconst K (nI 0) ic_0 19 dX0_laysShares_18 rfl ?_
    refine g_istore K [(0, .ref z), (1, .int x1), (2, .int (I (z + 155) 1)), (3, .int j1.1), (4, .int (nI 0))] [1, 2, 3, 4, 0] (by decide) rfl 21 dX0_laysShares_19 rfl ?_
    refine g_lp (head := 21) (L := fun j4 => [(0, .ref z), (1, .int x1), (2, .int (I (z + 155) 1)), (3, .int j1.1), (4, .int j4.1)]) (sf := fun j4 => []) (mf := fun j4 => (P, j4.2)) (fun again5 h6 j4 => ?_) fuel ((nI 0), j1.2)
    try dsimp only
    refine g_iload K 4 rfl 23 dX0_laysShares_21 rfl ?_
    refine g_iloadn K 2 rfl rfl 24 dX0_laysShares_23 rfl ?_
    refine g_icmp_gt K 27 124 dX0_laysShares_24 rfl (by decide) (fun _ => ?_) (fun _ => ?_)
    · refine g_iinc K (j1.1 + (nI 1)) 3 [(0, .ref z), (1, .int x1), (2, .int (I (z + 155) 1)), (3, .int (j1.1 + (nI 1)))] [1, 2, 3, 0] rfl (by rw [ic_1]) (by decide) rfl 127 dX0_laysShares_124 rfl ?_
      refine g_goto K 13 dX0_laysShares_127 (by decide) ?_
      exact h3 ((j1.1 + (nI 1)), j4.2)
    · refine g_aloadn K 0 rfl rfl 28 dX0_laysShares_27 rfl ?_
      refine gx_get K hK hsh 11 (v := .ref (z + 2425)) 31 in_X0 hz rfl (Nat.le_of_ble_eq_true rfl) rfl (by decide) (Or.inl q419) rfl dX0_laysShares_28 rfl ?_
      refine g_iloadn K 3 rfl rfl 32 dX0_laysShares_31 rfl ?_
      refine gx_aal K hK hsh 33 (sh_0_leastOf hsh hz) dX0_laysShares_32 rfl (fun i7 hi8 => ?_)
      refine g_iload K 4 rfl 35 dX0_laysShares_33 rfl ?_
      refine g_iloadn K 3 rfl rfl 36 dX0_laysShares_35 rfl ?_
      refine g_jn (head := 52) (L := fun j9 => [(0, .ref z), (1, .int x1), (2, .int (I (z + 155) 1)), (3, .int j1.1), (4, .int j4.1)]) (sf := fun j9 => [.int j9, .int j4.1, .ref (z + 2426 + i7)]) (mf := fun j9 => (P, j4.2)) (fun j9 => ?_) (fun k10 h11 => ?_)
      · try dsimp only
        refine gx_ast K hK hsh 53 (sh_22 hsh (sh_0_leastOf hsh hz) hi8) dX0_laysShares_52 rfl (fun I12 => ?_)
        refine g_iload K 4 rfl 55 dX0_laysShares_53 rfl ?_
        refine g_iconst K (nI 1) ic_1 56 dX0_laysShares_55 rfl ?_
        refine g_iadd K 57 dX0_laysShares_56 rfl ?_
        refine g_istore K [(0, .ref z), (1, .int x1), (2, .int (I (z + 155) 1)), (3, .int j1.1), (4, .int j4.1), (5, .int (j4.1 + (nI 1)))] [1, 2, 3, 4, 5, 0] (by decide) rfl 59 dX0_laysShares_57 rfl ?_
        refine g_lp (head := 59) (L := fun j13 => [(0, .ref z), (1, .int x1), (2, .int (I (z + 155) 1)), (3, .int j1.1), (4, .int j4.1), (5, .int j13.1)]) (sf := fun j13 => []) (mf := fun j13 => (P, j13.2)) (fun again14 h15 j13 => ?_) fuel ((j4.1 + (nI 1)), I12)
        try dsimp only
        refine g_iload K 5 rfl 61 dX0_laysShares_59 rfl ?_
        refine g_iloadn K 2 rfl rfl 62 dX0_laysShares_61 rfl ?_
        refine g_icmp_gt K 65 118 dX0_laysShares_62 rfl (by decide) (fun _ => ?_) (fun _ => ?_)
        · refine g_iinc K (j4.1 + (nI 1)) 4 [(0, .ref z), (1, .int x1), (2, .int (I (z + 155) 1)), (3, .int j1.1), (4, .int (j4.1 + (nI 1)))] [1, 2, 3, 4, 0] rfl (by rw [ic_1]) (by decide) rfl 121 dX0_laysShares_118 rfl ?_
          refine g_goto K 21 dX0_laysShares_121 (by decide) ?_
          exact h6 ((j4.1 + (nI 1)), j13.2)
        · refine g_iloadn K 3 rfl rfl 66 dX0_laysShares_65 rfl ?_
          refine g_if_le K 69 118 dX0_laysShares_66 rfl (by decide) (fun _ => ?_) (fun _ => ?_)
          · refine g_iinc K (j4.1 + (nI 1)) 4 [(0, .ref z), (1, .int x1), (2, .int (I (z + 155) 1)), (3, .int j1.1), (4, .int (j4.1 + (nI 1)))] [1, 2, 3, 4, 0] rfl (by rw [ic_1]) (by decide) rfl 121 dX0_laysShares_118 rfl ?_
            refine g_goto K 21 dX0_laysShares_121 (by decide) ?_
            exact h6 ((j4.1 + (nI 1)), j13.2)
          · refine g_aloadn K 0 rfl rfl 70 dX0_laysShares_69 rfl ?_
            refine gx_get K hK hsh 11 (v := .ref (z + 2425)) 73 in_X0 hz rfl (Nat.le_of_ble_eq_true rfl) rfl (by decide) (Or.inl q419) rfl dX0_laysShares_70 rfl ?_
            refine g_iloadn K 3 rfl rfl 74 dX0_laysShares_73 rfl ?_
            refine gx_aal K hK hsh 75 (sh_0_leastOf hsh hz) dX0_laysShares_74 rfl (fun i16 hi17 => ?_)
            refine g_iload K 4 rfl 77 dX0_laysShares_75 rfl ?_
            refine g_aloadn K 0 rfl rfl 78 dX0_laysShares_77 rfl ?_
            refine gx_get K hK hsh 11 (v := .ref (z + 2425)) 81 in_X0 hz rfl (Nat.le_of_ble_eq_true rfl) rfl (by decide) (Or.inl q419) rfl dX0_laysShares_78 rfl ?_
            refine g_iloadn K 3 rfl rfl 82 dX0_laysShares_81 rfl ?_
            refine gx_aal K hK hsh 83 (sh_0_leastOf hsh hz) dX0_laysShares_82 rfl (fun i18 hi19 => ?_)
            refine g_iload K 4 rfl 85 dX0_laysShares_83 rfl ?_
            refine gx_ald K hK hsh 86 (sh_22 hsh (sh_0_leastOf hsh hz) hi19) dX0_laysShares_85 rfl (fun v20 => ?_)
            refine g_aloadn K 0 rfl rfl 87 dX0_laysShares_86 rfl ?_
            refine g_iload K 4 rfl 89 dX0_laysShares_87 rfl ?_
            refine g_iload K 5 rfl 91 dX0_laysShares_89 rfl ?_
            refine gx_call K hK hsh 94 (ctx_x0_share P j13.2 j4.1 j13.1 hz) (lw_V q1326 q1328 qs44 q151 q1329) wd_x0_share hz rfl (Nat.le_of_ble_eq_true rfl) rfl (by decide) rfl (Nat.le_of_ble_eq_true rfl) dX0_laysShares_91 rfl (fun r21 hr22 => ?_)
            refine g_aloadn K 0 rfl rfl 95 dX0_laysShares_94 rfl ?_
            refine gx_get K hK hsh 11 (v := .ref (z + 2425)) 98 in_X0 hz rfl (Nat.le_of_ble_eq_true rfl) rfl (by decide) (Or.inl q419) rfl dX0_laysShares_95 rfl ?_
            refine g_iloadn K 3 rfl rfl 99 dX0_laysShares_98 rfl ?_
            refine g_iconst K (nI 1) ic_1 100 dX0_laysShares_99 rfl ?_
            refine g_isub K 101 dX0_laysShares_100 rfl ?_
            refine gx_aal K hK hsh 102 (sh_0_leastOf hsh hz) dX0_laysShares_101 rfl (fun i23 hi24 => ?_)
            refine g_iload K 5 rfl 104 dX0_laysShares_102 rfl ?_
            refine gx_ald K hK hsh 105 (sh_22 hsh (sh_0_leastOf hsh hz) hi24) dX0_laysShares_104 rfl (fun v25 => ?_)
            refine g_mmin K 108 q1219 q878 q159 q879 (by decide) (Nat.le_of_ble_eq_true rfl) dX0_laysShares_105 rfl ?_
            refine g_mmax K 111 q1220 q839 q159 q840 (by decide) (Nat.le_of_ble_eq_true rfl) dX0_laysShares_108 rfl ?_
            refine gx_ast K hK hsh 112 (sh_22 hsh (sh_0_leastOf hsh hz) hi17) dX0_laysShares_111 rfl (fun I26 => ?_)
            refine g_iinc K (j13.1 + (nI 1)) 5 [(0, .ref z), (1, .int x1), (2, .int (I (z + 155) 1)), (3, .int j1.1), (4, .int j4.1), (5, .int (j13.1 + (nI 1)))] [1, 2, 3, 4, 5, 0] rfl (by rw [ic_1]) (by decide) rfl 115 dX0_laysShares_112 rfl ?_
            refine g_goto K 59 dX0_laysShares_115 (by decide) ?_
            exact h15 ((j13.1 + (nI 1)), I26)
      · refine g_if_ne K 39 51 dX0_laysShares_36 rfl (by decide) (fun _ => ?_) (fun _ => ?_)
        · refine g_iload K 4 rfl 41 dX0_laysShares_39 rfl ?_
          refine g_iloadn K 2 rfl rfl 42 dX0_laysShares_41 rfl ?_
          refine g_icmp_ne K 45 51 dX0_laysShares_42 rfl (by decide) (fun _ => ?_) (fun _ => ?_)
          · refine g_ldcw K q1292 48 dX0_laysShares_45 rfl ?_
            refine g_goto K 52 dX0_laysShares_48 (by decide) ?_
            exact h11 (1000000 : Int32)
          · refine g_iconst K (-1 : Int32) ic_m1 52 dX0_laysShares_51 rfl ?_
            exact h11 (-1 : Int32)
        · refine g_iconst K (-1 : Int32) ic_m1 52 dX0_laysShares_51 rfl ?_
          exact h11 (-1 : Int32)
/-- GingerRents.plate(II)I -/
def x0_plate (I : Mem) (z : Nat) (x1 : Int32) (x2 : Int32) : Option (Int32 × Mem) :=
  (x0_isIn x1 (nI 1) (I (z + 155) 1)).bind fun r1 =>
  if (bI r1) = 0 then
  some ((-1 : Int32), I)
  else
  (x0_isIn x2 (nI 0) (nI 1)).bind fun r2 =>
  if (bI r2) = 0 then
  some ((-1 : Int32), I)
  else
  (x0_laysShares I z x1).bind fun r3 =>
  jn (fun (j5 : Unit) =>
  if x2 = 0 then
  (ix 10 x1).bind fun i8 =>
  (rd r3 (z + 2426 + i8) 10 (nI 0)).bind fun v10 =>
  some (v10, r3)
  else
  some ((-1 : Int32), r3)) (fun k6 =>
  if x2 = 0 then
  k6 ()
  else
  if x1 = (nI 1) then
  k6 ()
  else
  lp (fun again12 (j11 : Int32) =>
  (x0_share r3 z (nI 0) j11).bind fun r14 =>
  (ix 10 (x1 - (nI 1))).bind fun i16 =>
  (rd r3 (z + 2426 + i16) 10 j11).bind fun v18 =>
  (ix 10 x1).bind fun i19 =>
  (rd r3 (z + 2426 + i19) 10 (nI 0)).bind fun v21 =>
  if (imin r14 v18) = v21 then
  some (j11, r3)
  else
  again12 (j11 + (nI 1))) fuel (nI 1))
theorem wd_x0_plate : yX0_plate.cls = RX0 ∧ yX0_plate.cls ≠ "java/lang/invoke/MethodHandle" ∧ yX0_plate.cls ≠ "java/lang/invoke/VarHandle" ∧ (parseMethodDescriptor yX0_plate.desc).map (fun d => d.parameters.length) = some 2 := by decide +kernel
set_option maxRecDepth 100000 in
theorem ctx_x0_plate {cs : Cs} {z : Nat} {kd : Kd} (P : Ptr) (I : Mem) (x1 : Int32) (x2 : Int32) (hz : kd z = (0, 0, 0)) : CtX cs z kd yX0_plate cX0_plate 4 (some .int) 3 70 [.ref z, .int x1, .int x2] (P, I) (fun r => (some (.int r.1), (P, r.2))) (x0_plate I z x1 x2) := by
  refine CtX.of RX0 (by decide) rfl (Nat.le_of_ble_eq_true rfl) ?_
  intro l D sz p e s m args below meth c hsh K hr hlk hK
  refine g_sub (ls' := [(0, .ref z), (1, .int x1), (2, .int x2)]) [0, 1, 2] rfl ?_
  unfold x0_plate
  refine g_iloadn K 1 rfl rfl 1 dX0_plate_0 rfl ?_
  refine g_iconst K (nI 1) ic_1 2 dX0_plate_1 rfl ?_
  refine g_aloadn K 0 rfl rfl 3 dX0_plate_2 rfl ?_
  refine gx_get K hK hsh 4 (v := .ref (z + 2)) 6 in_X0 hz rfl (Nat.le_of_ble_eq_true rfl) rfl (by decide) (Or.inl q411) rfl dX0_plate_3 rfl ?_
  refine gx_get K hK hsh 2 (v := .ref (z + 155)) 9 in_X1 (sh_0_borough hsh hz) rfl (Nat.le_of_ble_eq_true rfl) rfl (by decide) (Or.inr (nf_q302 hK.2)) rfl dX0_plate_6 rfl ?_
  refine gx_get K hK hsh 1 (v := .int (I (z + 155) 1)) 12 in_X2 (sh_1_pieces hsh (sh_0_borough hsh hz)) rfl (Nat.le_of_ble_eq_true rfl) rfl (by decide) (Or.inr (nf_q213 hK.2)) rfl dX0_plate_9 rfl ?_
  refine g_callS K 15 (cts_x0_isIn x1 (nI 1) (I (z + 155) 1)) (lw_S q478 q479 q151 q480) wds_x0_isIn (by decide) rfl (Nat.le_of_ble_eq_true rfl) dX0_plate_12 rfl (fun r1 _ => ?_)
  refine g_if_eq K 18 27 dX0_plate_15 rfl (by decide) (fun _ => ?_) (fun _ => ?_)
  · refine g_iconst K (-1 : Int32) ic_m1 28 dX0_plate_27 rfl ?_
    exact gx_iret K hK hsh hr hlk dX0_plate_28 rfl
  · refine g_iloadn K 2 rfl rfl 19 dX0_plate_18 rfl ?_
    refine g_iconst K (nI 0) ic_0 20 dX0_plate_19 rfl ?_
    refine g_iconst K (nI 1) ic_1 21 dX0_plate_20 rfl ?_
    refine g_callS K 24 (cts_x0_isIn x2 (nI 0) (nI 1)) (lw_S q478 q479 q151 q480) wds_x0_isIn (by decide) rfl (Nat.le_of_ble_eq_true rfl) dX0_plate_21 rfl (fun r2 _ => ?_)
    refine g_if_ne K 27 29 dX0_plate_24 rfl (by decide) (fun _ => ?_) (fun _ => ?_)
    · refine g_iconst K (-1 : Int32) ic_m1 28 dX0_plate_27 rfl ?_
      exact gx_iret K hK hsh hr hlk dX0_plate_28 rfl
    · refine g_aloadn K 0 rfl rfl 30 dX0_plate_29 rfl ?_
      refine g_iloadn K 1 rfl rfl 31 dX0_plate_30 rfl ?_
      refine gx_call K hK hsh 34 (ctx_x0_laysShares P I x1 hz) (lw_V q1322 q1324 qs43 q151 q1325) wd_x0_laysShares hz rfl (Nat.le_of_ble_eq_true rfl) rfl (by decide) rfl (Nat.le_of_ble_eq_true rfl) dX0_plate_31 rfl (fun r3 hr4 => ?_)
      refine g_iloadn K 2 rfl rfl 35 dX0_plate_34 rfl ?_
      refine g_jn (head := 43) (L := fun j5 => [(0, .ref z), (1, .int x1), (2, .int x2)]) (sf := fun j5 => []) (mf := fun j5 => (P, r3)) (fun j5 => ?_) (fun k6 h7 => ?_)
      · try dsimp only
        refine g_iloadn K 2 rfl rfl 44 dX0_plate_43 rfl ?_
        refine g_if_ne K 47 58 dX0_plate_44 rfl (by decide) (fun _ => ?_) (fun _ => ?_)
        · refine g_aloadn K 0 rfl rfl 48 dX0_plate_47 rfl ?_
          refine gx_get K hK hsh 11 (v := .ref (z + 2425)) 51 in_X0 hz rfl (Nat.le_of_ble_eq_true rfl) rfl (by decide) (Or.inl q419) rfl dX0_plate_48 rfl ?_
          refine g_iloadn K 1 rfl rfl 52 dX0_plate_51 rfl ?_
          refine gx_aal K hK hsh 53 (sh_0_leastOf hsh hz) dX0_plate_52 rfl (fun i8 hi9 => ?_)
          refine g_iconst K (nI 0) ic_0 54 dX0_plate_53 rfl ?_
          refine gx_ald K hK hsh 55 (sh_22 hsh (sh_0_leastOf hsh hz) hi9) dX0_plate_54 rfl (fun v10 => ?_)
          refine g_goto K 59 dX0_plate_55 (by decide) ?_
          exact gx_iret K hK hsh hr hlk dX0_plate_59 rfl
        · refine g_iconst K (-1 : Int32) ic_m1 59 dX0_plate_58 rfl ?_
          exact gx_iret K hK hsh hr hlk dX0_plate_59 rfl
      · refine g_if_eq K 38 43 dX0_plate_35 rfl (by decide) (fun _ => ?_) (fun _ => ?_)
        · exact h7 ()
        · refine g_iloadn K 1 rfl rfl 39 dX0_plate_38 rfl ?_
          refine g_iconst K (nI 1) ic_1 40 dX0_plate_39 rfl ?_
          refine g_icmp_ne K 43 60 dX0_plate_40 rfl (by decide) (fun _ => ?_) (fun _ => ?_)
          · exact h7 ()
          · refine g_iconst K (nI 1) ic_1 61 dX0_plate_60 rfl ?_
            refine g_istoren K [(0, .ref z), (1, .int x1), (3, .int (nI 1))] [1, 2, 0] rfl (by decide) rfl 62 dX0_plate_61 rfl ?_
            refine g_lp (head := 62) (L := fun j11 => [(0, .ref z), (1, .int x1), (3, .int j11)]) (sf := fun j11 => []) (mf := fun j11 => (P, r3)) (fun again12 h13 j11 => ?_) fuel (nI 1)
            try dsimp only
            refine g_aloadn K 0 rfl rfl 63 dX0_plate_62 rfl ?_
            refine g_iconst K (nI 0) ic_0 64 dX0_plate_63 rfl ?_
            refine g_iloadn K 2 rfl rfl 65 dX0_plate_64 rfl ?_
            refine gx_call K hK hsh 68 (ctx_x0_share P r3 (nI 0) j11 hz) (lw_V q1326 q1328 qs44 q151 q1329) wd_x0_share hz rfl (Nat.le_of_ble_eq_true rfl) rfl (by decide) rfl (Nat.le_of_ble_eq_true rfl) dX0_plate_65 rfl (fun r14 hr15 => ?_)
            refine g_aloadn K 0 rfl rfl 69 dX0_plate_68 rfl ?_
            refine gx_get K hK hsh 11 (v := .ref (z + 2425)) 72 in_X0 hz rfl (Nat.le_of_ble_eq_true rfl) rfl (by decide) (Or.inl q419) rfl dX0_plate_69 rfl ?_
            refine g_iloadn K 1 rfl rfl 73 dX0_plate_72 rfl ?_
            refine g_iconst K (nI 1) ic_1 74 dX0_plate_73 rfl ?_
            refine g_isub K 75 dX0_plate_74 rfl ?_
            refine gx_aal K hK hsh 76 (sh_0_leastOf hsh hz) dX0_plate_75 rfl (fun i16 hi17 => ?_)
            refine g_iloadn K 2 rfl rfl 77 dX0_plate_76 rfl ?_
            refine gx_ald K hK hsh 78 (sh_22 hsh (sh_0_leastOf hsh hz) hi17) dX0_plate_77 rfl (fun v18 => ?_)
            refine g_mmin K 81 q1219 q878 q159 q879 (by decide) (Nat.le_of_ble_eq_true rfl) dX0_plate_78 rfl ?_
            refine g_aloadn K 0 rfl rfl 82 dX0_plate_81 rfl ?_
            refine gx_get K hK hsh 11 (v := .ref (z + 2425)) 85 in_X0 hz rfl (Nat.le_of_ble_eq_true rfl) rfl (by decide) (Or.inl q419) rfl dX0_plate_82 rfl ?_
            refine g_iloadn K 1 rfl rfl 86 dX0_plate_85 rfl ?_
            refine gx_aal K hK hsh 87 (sh_0_leastOf hsh hz) dX0_plate_86 rfl (fun i19 hi20 => ?_)
            refine g_iconst K (nI 0) ic_0 88 dX0_plate_87 rfl ?_
            refine gx_ald K hK hsh 89 (sh_22 hsh (sh_0_leastOf hsh hz) hi20) dX0_plate_88 rfl (fun v21 => ?_)
            refine g_icmp_eq K 92 98 dX0_plate_89 rfl (by decide) (fun _ => ?_) (fun _ => ?_)
            · refine g_iloadn K 2 rfl rfl 99 dX0_plate_98 rfl ?_
              exact gx_iret K hK hsh hr hlk dX0_plate_99 rfl
            · refine g_iinc K (j11 + (nI 1)) 2 [(0, .ref z), (1, .int x1), (3, .int (j11 + (nI 1)))] [1, 2, 0] rfl (by rw [ic_1]) (by decide) rfl 95 dX0_plate_92 rfl ?_
              refine g_goto K 62 dX0_plate_95 (by decide) ?_
              exact h13 (j11 + (nI 1))
/-- GingerRents.dough(I)I -/
def x0_dough (I : Mem) (z : Nat) (x1 : Int32) : Option (Int32 × Mem) :=
  if x1 = (-1 : Int32) then
  (x2_ends I (z + 166) 8).bind fun r4 =>
  some (r4.1, r4.2)
  else
  (x0_isIn x1 (nI 1) (nI 30)).bind fun r1 =>
  if (bI r1) = 0 then
  some ((-1 : Int32), I)
  else
  (x2_tells I (z + 166) 8 x1 (nI 0)).bind fun r2 =>
  some (r2.1, r2.2)
theorem wd_x0_dough : yX0_dough.cls = RX0 ∧ yX0_dough.cls ≠ "java/lang/invoke/MethodHandle" ∧ yX0_dough.cls ≠ "java/lang/invoke/VarHandle" ∧ (parseMethodDescriptor yX0_dough.desc).map (fun d => d.parameters.length) = some 1 := by decide +kernel
set_option maxRecDepth 100000 in
theorem ctx_x0_dough {cs : Cs} {z : Nat} {kd : Kd} (P : Ptr) (I : Mem) (x1 : Int32) (hz : kd z = (0, 0, 0)) : CtX cs z kd yX0_dough cX0_dough 2 (some .int) 1 22 [.ref z, .int x1] (P, I) (fun r => (some (.int r.1), (P, r.2))) (x0_dough I z x1) := by
  refine CtX.of RX0 (by decide) rfl (Nat.le_of_ble_eq_true rfl) ?_
  intro l D sz p e s m args below meth c hsh K hr hlk hK
  refine g_sub (ls' := [(0, .ref z), (1, .int x1)]) [0, 1] rfl ?_
  unfold x0_dough
  refine g_iloadn K 1 rfl rfl 1 dX0_dough_0 rfl ?_
  refine g_iconst K (-1 : Int32) ic_m1 2 dX0_dough_1 rfl ?_
  refine g_icmp_ne K 5 18 dX0_dough_2 rfl (by decide) (fun _ => ?_) (fun _ => ?_)
  · refine g_aloadn K 0 rfl rfl 6 dX0_dough_5 rfl ?_
    refine gx_get K hK hsh 4 (v := .ref (z + 2)) 9 in_X0 hz rfl (Nat.le_of_ble_eq_true rfl) rfl (by decide) (Or.inl q411) rfl dX0_dough_6 rfl ?_
    refine gx_get K hK hsh 3 (v := .ref (z + 166)) 12 in_X1 (sh_0_borough hsh hz) rfl (Nat.le_of_ble_eq_true rfl) rfl (by decide) (Or.inr (nf_q304 hK.2)) rfl dX0_dough_9 rfl ?_
    refine gx_call K hK hsh 15 (ctx_x2_ends P I (z + 166) 8 (sh_1_doughs hsh (sh_0_borough hsh hz))) (lw_V q1310 q1311 q1312 q153 q1313) wd_x2_ends (sh_1_doughs hsh (sh_0_borough hsh hz)) rfl (Nat.le_of_ble_eq_true rfl) rfl (by decide) rfl (Nat.le_of_ble_eq_true rfl) dX0_dough_12 rfl (fun r4 hr5 => ?_)
    refine g_goto K 44 dX0_dough_15 (by decide) ?_
    exact gx_iret K hK hsh hr hlk dX0_dough_44 rfl
  · refine g_iloadn K 1 rfl rfl 19 dX0_dough_18 rfl ?_
    refine g_iconst K (nI 1) ic_1 20 dX0_dough_19 rfl ?_
    refine g_bipush K (nI 30) bp_30 22 dX0_dough_20 rfl ?_
    refine g_callS K 25 (cts_x0_isIn x1 (nI 1) (nI 30)) (lw_S q478 q479 q151 q480) wds_x0_isIn (by decide) rfl (Nat.le_of_ble_eq_true rfl) dX0_dough_22 rfl (fun r1 _ => ?_)
    refine g_if_eq K 28 43 dX0_dough_25 rfl (by decide) (fun _ => ?_) (fun _ => ?_)
    · refine g_iconst K (-1 : Int32) ic_m1 44 dX0_dough_43 rfl ?_
      exact gx_iret K hK hsh hr hlk dX0_dough_44 rfl
    · refine g_aloadn K 0 rfl rfl 29 dX0_dough_28 rfl ?_
      refine gx_get K hK hsh 4 (v := .ref (z + 2)) 32 in_X0 hz rfl (Nat.le_of_ble_eq_true rfl) rfl (by decide) (Or.inl q411) rfl dX0_dough_29 rfl ?_
      refine gx_get K hK hsh 3 (v := .ref (z + 166)) 35 in_X1 (sh_0_borough hsh hz) rfl (Nat.le_of_ble_eq_true rfl) rfl (by decide) (Or.inr (nf_q304 hK.2)) rfl dX0_dough_32 rfl ?_
      refine g_iloadn K 1 rfl rfl 36 dX0_dough_35 rfl ?_
      refine g_iconst K (nI 0) ic_0 37 dX0_dough_36 rfl ?_
      refine gx_call K hK hsh 40 (ctx_x2_tells P I (z + 166) 8 x1 (nI 0) (sh_1_doughs hsh (sh_0_borough hsh hz))) (lw_V q1314 q1315 q1316 q153 q1317) wd_x2_tells (sh_1_doughs hsh (sh_0_borough hsh hz)) rfl (Nat.le_of_ble_eq_true rfl) rfl (by decide) rfl (Nat.le_of_ble_eq_true rfl) dX0_dough_37 rfl (fun r2 hr3 => ?_)
      refine g_goto K 44 dX0_dough_40 (by decide) ?_
      exact gx_iret K hK hsh hr hlk dX0_dough_44 rfl
/-- GingerRents.doughOf(I)I -/
def x0_doughOf (I : Mem) (z : Nat) (x1 : Int32) : Option (Int32) :=
  lp (fun again2 (j1 : Int32 × Int32) =>
  if (I (z + 166) 1) ≤ j1.2 then
  some j1.1
  else
  jn (fun (j4 : Int32) =>
  again2 ((j1.1 + j4), (j1.2 + (nI 1)))) (fun k5 =>
  if ((x1 >>> (j1.2 &&& 31)) &&& (nI 1)) = (nI 1) then
  (x2_first I (z + 166) 8 j1.2).bind fun r7 =>
  k5 r7
  else
  k5 (nI 0))) fuel ((nI 0), (nI 0))
theorem wd_x0_doughOf : yX0_doughOf.cls = RX0 ∧ yX0_doughOf.cls ≠ "java/lang/invoke/MethodHandle" ∧ yX0_doughOf.cls ≠ "java/lang/invoke/VarHandle" ∧ (parseMethodDescriptor yX0_doughOf.desc).map (fun d => d.parameters.length) = some 1 := by decide +kernel
set_option maxRecDepth 100000 in
theorem ctx_x0_doughOf {cs : Cs} {z : Nat} {kd : Kd} (P : Ptr) (I : Mem) (x1 : Int32) (hz : kd z = (0, 0, 0)) : CtX cs z kd yX0_doughOf cX0_doughOf 4 (some .int) 1 21 [.ref z, .int x1] (P, I) (fun r => (some (.int r), (P, I))) (x0_doughOf I z x1) := by
  refine CtX.of RX0 (by decide) rfl (Nat.le_of_ble_eq_true rfl) ?_
  intro l D sz p e s m args below meth c hsh K hr hlk hK
  refine g_sub (ls' := [(0, .ref z), (1, .int x1)]) [0, 1] rfl ?_
  unfold x0_doughOf
  refine g_iconst K (nI 0) ic_0 1 dX0_doughOf_0 rfl ?_
  refine g_istoren K [(0, .ref z), (1, .int x1), (2, .int (nI 0))] [1, 2, 0] rfl (by decide) rfl 2 dX0_doughOf_1 rfl ?_
  refine g_iconst K (nI 0) ic_0 3 dX0_doughOf_2 rfl ?_
  refine g_istoren K [(0, .ref z), (1, .int x1), (2, .int (nI 0)), (3, .int (nI 0))] [1, 2, 3, 0] rfl (by decide) rfl 4 dX0_doughOf_3 rfl ?_
  refine g_lp (head := 4) (L := fun j1 => [(0, .ref z), (1, .int x1), (2, .int j1.1), (3, .int j1.2)]) (sf := fun j1 => []) (mf := fun j1 => (P, I)) (fun again2 h3 j1 => ?_) fuel ((nI 0), (nI 0))
  try dsimp only
  refine g_iloadn K 3 rfl rfl 5 dX0_doughOf_4 rfl ?_
  refine g_aloadn K 0 rfl rfl 6 dX0_doughOf_5 rfl ?_
  refine gx_get K hK hsh 4 (v := .ref (z + 2)) 9 in_X0 hz rfl (Nat.le_of_ble_eq_true rfl) rfl (by decide) (Or.inl q411) rfl dX0_doughOf_6 rfl ?_
  refine gx_get K hK hsh 3 (v := .ref (z + 166)) 12 in_X1 (sh_0_borough hsh hz) rfl (Nat.le_of_ble_eq_true rfl) rfl (by decide) (Or.inr (nf_q304 hK.2)) rfl dX0_doughOf_9 rfl ?_
  refine gx_get K hK hsh 1 (v := .int (I (z + 166) 1)) 15 in_X2 (sh_1_doughs hsh (sh_0_borough hsh hz)) rfl (Nat.le_of_ble_eq_true rfl) rfl (by decide) (Or.inr (nf_q213 hK.2)) rfl dX0_doughOf_12 rfl ?_
  refine g_icmp_ge K 18 51 dX0_doughOf_15 rfl (by decide) (fun _ => ?_) (fun _ => ?_)
  · refine g_iloadn K 2 rfl rfl 52 dX0_doughOf_51 rfl ?_
    exact gx_iret K hK hsh hr hlk dX0_doughOf_52 rfl
  · refine g_iloadn K 2 rfl rfl 19 dX0_doughOf_18 rfl ?_
    refine g_iloadn K 1 rfl rfl 20 dX0_doughOf_19 rfl ?_
    refine g_iloadn K 3 rfl rfl 21 dX0_doughOf_20 rfl ?_
    refine g_ishr K 22 dX0_doughOf_21 rfl ?_
    refine g_iconst K (nI 1) ic_1 23 dX0_doughOf_22 rfl ?_
    refine g_iand K 24 dX0_doughOf_23 rfl ?_
    refine g_iconst K (nI 1) ic_1 25 dX0_doughOf_24 rfl ?_
    refine g_jn (head := 43) (L := fun j4 => [(0, .ref z), (1, .int x1), (3, .int j1.2)]) (sf := fun j4 => [.int j4, .int j1.1]) (mf := fun j4 => (P, I)) (fun j4 => ?_) (fun k5 h6 => ?_)
    · try dsimp only
      refine g_iadd K 44 dX0_doughOf_43 rfl ?_
      refine g_istoren K [(0, .ref z), (1, .int x1), (2, .int (j1.1 + j4)), (3, .int j1.2)] [1, 2, 0, 3] rfl (by decide) rfl 45 dX0_doughOf_44 rfl ?_
      refine g_iinc K (j1.2 + (nI 1)) 3 [(0, .ref z), (1, .int x1), (2, .int (j1.1 + j4)), (3, .int (j1.2 + (nI 1)))] [1, 2, 3, 0] rfl (by rw [ic_1]) (by decide) rfl 48 dX0_doughOf_45 rfl ?_
      refine g_goto K 4 dX0_doughOf_48 (by decide) ?_
      exact h3 ((j1.1 + j4), (j1.2 + (nI 1)))
    · refine g_icmp_ne K 28 42 dX0_doughOf_25 rfl (by decide) (fun _ => ?_) (fun _ => ?_)
      · refine g_aloadn K 0 rfl rfl 29 dX0_doughOf_28 rfl ?_
        refine gx_get K hK hsh 4 (v := .ref (z + 2)) 32 in_X0 hz rfl (Nat.le_of_ble_eq_true rfl) rfl (by decide) (Or.inl q411) rfl dX0_doughOf_29 rfl ?_
        refine gx_get K hK hsh 3 (v := .ref (z + 166)) 35 in_X1 (sh_0_borough hsh hz) rfl (Nat.le_of_ble_eq_true rfl) rfl (by decide) (Or.inr (nf_q304 hK.2)) rfl dX0_doughOf_32 rfl ?_
        refine g_iloadn K 3 rfl rfl 36 dX0_doughOf_35 rfl ?_
        refine gx_call K hK hsh 39 (ctx_x2_first P I (z + 166) 8 j1.2 (sh_1_doughs hsh (sh_0_borough hsh hz))) (lw_V q1330 q1331 q1332 q153 q1333) wd_x2_first (sh_1_doughs hsh (sh_0_borough hsh hz)) rfl (Nat.le_of_ble_eq_true rfl) rfl (by decide) rfl (Nat.le_of_ble_eq_true rfl) dX0_doughOf_36 rfl (fun r7 hr8 => ?_)
        refine g_goto K 43 dX0_doughOf_39 (by decide) ?_
        refine g_sub (ls' := [(0, .ref z), (1, .int x1), (3, .int j1.2)]) [0, 1, 3] rfl ?_
        exact h6 r7
      · refine g_iconst K (nI 0) ic_0 43 dX0_doughOf_42 rfl ?_
        refine g_sub (ls' := [(0, .ref z), (1, .int x1), (3, .int j1.2)]) [0, 1, 3] rfl ?_
        exact h6 (nI 0)
/-- GingerRents.mortgage(IIII)I -/
def x0_mortgage (I : Mem) (z : Nat) (x1 : Int32) (x2 : Int32) (x3 : Int32) (x4 : Int32) : Option (Int32) :=
  (x0_isIn x1 (nI 1) (nI 9999)).bind fun r1 =>
  if (bI r1) = 0 then
  some (-1 : Int32)
  else
  (x0_isIn x2 (nI 0) (nI 50)).bind fun r2 =>
  if (bI r2) = 0 then
  some (-1 : Int32)
  else
  (x0_isIn x3 (nI 1) (nI 999)).bind fun r3 =>
  if (bI r3) = 0 then
  some (-1 : Int32)
  else
  (x0_isIn x4 (nI 0) (nI 1)).bind fun r4 =>
  if (bI r4) = 0 then
  some (-1 : Int32)
  else
  jn (fun (j5 : Int32 × Int32) =>
  if x4 = 0 then
  some j5.2
  else
  some j5.1) (fun k6 =>
  lp (fun again9 (j8 : Int32 × Int32 × Int32) =>
  if (nI 400) < j8.2.2 then
  some (-1 : Int32)
  else
  if (1000000 : Int32) ≤ j8.1 then
  some (-1 : Int32)
  else
  (idivO ((j8.1 * x2) + (nI 99)) (nI 100)).bind fun v11 =>
  nm ((j8.1 + v11) - (imin x3 (j8.1 + v11))) fun v12 =>
  nm (j8.2.1 + (imin x3 (j8.1 + v11))) fun v13 =>
  if v12 = 0 then
  k6 (v13, j8.2.2)
  else
  again9 (v12, v13, (j8.2.2 + (nI 1)))) fuel (x1, (nI 0), (nI 1)))
theorem wd_x0_mortgage : yX0_mortgage.cls = RX0 ∧ yX0_mortgage.cls ≠ "java/lang/invoke/MethodHandle" ∧ yX0_mortgage.cls ≠ "java/lang/invoke/VarHandle" ∧ (parseMethodDescriptor yX0_mortgage.desc).map (fun d => d.parameters.length) = some 4 := by decide +kernel
set_option maxRecDepth 100000 in
theorem ctx_x0_mortgage {cs : Cs} {z : Nat} {kd : Kd} (P : Ptr) (I : Mem) (x1 : Int32) (x2 : Int32) (x3 : Int32) (x4 : Int32) (hz : kd z = (0, 0, 0)) : CtX cs z kd yX0_mortgage cX0_mortgage 9 (some .int) 1 22 [.ref z, .int x1, .int x2, .int x3, .int x4] (P, I) (fun r => (some (.int r), (P, I))) (x0_mortgage I z x1 x2 x3 x4) := by
  refine CtX.of RX0 (by decide) rfl (Nat.le_of_ble_eq_true rfl) ?_
  intro l D sz p e s m args below meth c hsh K hr hlk hK
  refine g_sub (ls' := [(0, .ref z), (1, .int x1), (2, .int x2), (3, .int x3), (4, .int x4)]) [0, 1, 2, 3, 4] rfl ?_
  unfold x0_mortgage
  refine g_iloadn K 1 rfl rfl 1 dX0_mortgage_0 rfl ?_
  refine g_iconst K (nI 1) ic_1 2 dX0_mortgage_1 rfl ?_
  refine g_sipush K (nI 9999) sp_9999 5 dX0_mortgage_2 rfl ?_
  refine g_callS K 8 (cts_x0_isIn x1 (nI 1) (nI 9999)) (lw_S q478 q479 q151 q480) wds_x0_isIn (by decide) rfl (Nat.le_of_ble_eq_true rfl) dX0_mortgage_5 rfl (fun r1 _ => ?_)
  refine g_if_eq K 11 42 dX0_mortgage_8 rfl (by decide) (fun _ => ?_) (fun _ => ?_)
  · refine g_iconst K (-1 : Int32) ic_m1 43 dX0_mortgage_42 rfl ?_
    exact gx_iret K hK hsh hr hlk dX0_mortgage_43 rfl
  · refine g_iloadn K 2 rfl rfl 12 dX0_mortgage_11 rfl ?_
    refine g_iconst K (nI 0) ic_0 13 dX0_mortgage_12 rfl ?_
    refine g_bipush K (nI 50) bp_50 15 dX0_mortgage_13 rfl ?_
    refine g_callS K 18 (cts_x0_isIn x2 (nI 0) (nI 50)) (lw_S q478 q479 q151 q480) wds_x0_isIn (by decide) rfl (Nat.le_of_ble_eq_true rfl) dX0_mortgage_15 rfl (fun r2 _ => ?_)
    refine g_if_eq K 21 42 dX0_mortgage_18 rfl (by decide) (fun _ => ?_) (fun _ => ?_)
    · refine g_iconst K (-1 : Int32) ic_m1 43 dX0_mortgage_42 rfl ?_
      exact gx_iret K hK hsh hr hlk dX0_mortgage_43 rfl
    · refine g_iloadn K 3 rfl rfl 22 dX0_mortgage_21 rfl ?_
      refine g_iconst K (nI 1) ic_1 23 dX0_mortgage_22 rfl ?_
      refine g_sipush K (nI 999) sp_999 26 dX0_mortgage_23 rfl ?_
      refine g_callS K 29 (cts_x0_isIn x3 (nI 1) (nI 999)) (lw_S q478 q479 q151 q480) wds_x0_isIn (by decide) rfl (Nat.le_of_ble_eq_true rfl) dX0_mortgage_26 rfl (fun r3 _ => ?_)
      refine g_if_eq K 32 42 dX0_mortgage_29 rfl (by decide) (fun _ => ?_) (fun _ => ?_)
      · refine g_iconst K (-1 : Int32) ic_m1 43 dX0_mortgage_42 rfl ?_
        exact gx_iret K hK hsh hr hlk dX0_mortgage_43 rfl
      · refine g_iload K 4 rfl 34 dX0_mortgage_32 rfl ?_
        refine g_iconst K (nI 0) ic_0 35 dX0_mortgage_34 rfl ?_
        refine g_iconst K (nI 1) ic_1 36 dX0_mortgage_35 rfl ?_
        refine g_callS K 39 (cts_x0_isIn x4 (nI 0) (nI 1)) (lw_S q478 q479 q151 q480) wds_x0_isIn (by decide) rfl (Nat.le_of_ble_eq_true rfl) dX0_mortgage_36 rfl (fun r4 _ => ?_)
        refine g_if_ne K 42 44 dX0_mortgage_39 rfl (by decide) (fun _ => ?_) (fun _ => ?_)
        · refine g_iconst K (-1 : Int32) ic_m1 43 dX0_mortgage_42 rfl ?_
          exact gx_iret K hK hsh hr hlk dX0_mortgage_43 rfl
        · refine g_iloadn K 1 rfl rfl 45 dX0_mortgage_44 rfl ?_
          refine g_istore K [(0, .ref z), (2, .int x2), (3, .int x3), (4, .int x4), (5, .int x1)] [1, 3, 4, 5, 0] (by decide) rfl 47 dX0_mortgage_45 rfl ?_
          refine g_iconst K (nI 0) ic_0 48 dX0_mortgage_47 rfl ?_
          refine g_istore K [(0, .ref z), (2, .int x2), (3, .int x3), (4, .int x4), (5, .int x1), (6, .int (nI 0))] [1, 2, 3, 4, 5, 0] (by decide) rfl 50 dX0_mortgage_48 rfl ?_
          refine g_iconst K (nI 1) ic_1 51 dX0_mortgage_50 rfl ?_
          refine g_istore K [(0, .ref z), (2, .int x2), (3, .int x3), (4, .int x4), (5, .int x1), (6, .int (nI 0)), (7, .int (nI 1))] [1, 2, 3, 4, 5, 6, 0] (by decide) rfl 53 dX0_mortgage_51 rfl ?_
          refine g_jn (head := 111) (L := fun j5 => [(0, .ref z), (4, .int x4), (6, .int j5.1), (7, .int j5.2)]) (sf := fun j5 => []) (mf := fun j5 => (P, I)) (fun j5 => ?_) (fun k6 h7 => ?_)
          · try dsimp only
            refine g_iload K 1 rfl 113 dX0_mortgage_111 rfl ?_
            refine g_if_ne K 116 121 dX0_mortgage_113 rfl (by decide) (fun _ => ?_) (fun _ => ?_)
            · refine g_iload K 3 rfl 118 dX0_mortgage_116 rfl ?_
              refine g_goto K 123 dX0_mortgage_118 (by decide) ?_
              exact gx_iret K hK hsh hr hlk dX0_mortgage_123 rfl
            · refine g_iload K 2 rfl 123 dX0_mortgage_121 rfl ?_
              exact gx_iret K hK hsh hr hlk dX0_mortgage_123 rfl
          · refine g_lp (head := 53) (L := fun j8 => [(0, .ref z), (2, .int x2), (3, .int x3), (4, .int x4), (5, .int j8.1), (6, .int j8.2.1), (7, .int j8.2.2)]) (sf := fun j8 => []) (mf := fun j8 => (P, I)) (fun again9 h10 j8 => ?_) fuel (x1, (nI 0), (nI 1))
            try dsimp only
            refine g_iload K 6 rfl 55 dX0_mortgage_53 rfl ?_
            refine g_sipush K (nI 400) sp_400 58 dX0_mortgage_55 rfl ?_
            refine g_icmp_gt K 61 130 dX0_mortgage_58 rfl (by decide) (fun _ => ?_) (fun _ => ?_)
            · refine g_iconst K (-1 : Int32) ic_m1 131 dX0_mortgage_130 rfl ?_
              exact gx_iret K hK hsh hr hlk dX0_mortgage_131 rfl
            · refine g_iload K 4 rfl 63 dX0_mortgage_61 rfl ?_
              refine g_ldcw K q1292 66 dX0_mortgage_63 rfl ?_
              refine g_icmp_ge K 69 130 dX0_mortgage_66 rfl (by decide) (fun _ => ?_) (fun _ => ?_)
              · refine g_iconst K (-1 : Int32) ic_m1 131 dX0_mortgage_130 rfl ?_
                exact gx_iret K hK hsh hr hlk dX0_mortgage_131 rfl
              · refine g_iload K 4 rfl 71 dX0_mortgage_69 rfl ?_
                refine g_iload K 4 rfl 73 dX0_mortgage_71 rfl ?_
                refine g_iloadn K 1 rfl rfl 74 dX0_mortgage_73 rfl ?_
                refine g_imul K 75 dX0_mortgage_74 rfl ?_
                refine g_bipush K (nI 99) bp_99 77 dX0_mortgage_75 rfl ?_
                refine g_iadd K 78 dX0_mortgage_77 rfl ?_
                refine g_bipush K (nI 100) bp_100 80 dX0_mortgage_78 rfl ?_
                refine g_idiv K 81 dX0_mortgage_80 rfl (fun v11 _ _ => ?_)
                refine g_iadd K 82 dX0_mortgage_81 rfl ?_
                refine g_istore K [(0, .ref z), (2, .int x2), (3, .int x3), (4, .int x4), (5, .int (j8.1 + v11)), (6, .int j8.2.1), (7, .int j8.2.2)] [1, 2, 3, 4, 0, 5, 6] (by decide) rfl 84 dX0_mortgage_82 rfl ?_
                refine g_iloadn K 2 rfl rfl 85 dX0_mortgage_84 rfl ?_
                refine g_iload K 4 rfl 87 dX0_mortgage_85 rfl ?_
                refine g_mmin K 90 q1219 q878 q159 q879 (by decide) (Nat.le_of_ble_eq_true rfl) dX0_mortgage_87 rfl ?_
                refine g_istore K [(0, .ref z), (2, .int x2), (3, .int x3), (4, .int x4), (5, .int (j8.1 + v11)), (6, .int j8.2.1), (7, .int j8.2.2), (8, .int (imin x3 (j8.1 + v11)))] [1, 2, 3, 4, 5, 6, 7, 0] (by decide) rfl 92 dX0_mortgage_90 rfl ?_
                refine g_iload K 4 rfl 94 dX0_mortgage_92 rfl ?_
                refine g_iload K 7 rfl 96 dX0_mortgage_94 rfl ?_
                refine g_isub K 97 dX0_mortgage_96 rfl ?_
                refine g_nm (fun v12 _ => ?_)
                refine g_istore K [(0, .ref z), (2, .int x2), (3, .int x3), (4, .int x4), (5, .int v12), (6, .int j8.2.1), (7, .int j8.2.2), (8, .int (imin x3 (j8.1 + v11)))] [1, 2, 3, 4, 0, 5, 6, 7] (by decide) rfl 99 dX0_mortgage_97 rfl ?_
                refine g_iload K 5 rfl 101 dX0_mortgage_99 rfl ?_
                refine g_iload K 7 rfl 103 dX0_mortgage_101 rfl ?_
                refine g_iadd K 104 dX0_mortgage_103 rfl ?_
                refine g_nm (fun v13 _ => ?_)
                refine g_istore K [(0, .ref z), (2, .int x2), (3, .int x3), (4, .int x4), (5, .int v12), (6, .int v13), (7, .int j8.2.2)] [1, 2, 3, 4, 5, 0, 6] (by decide) rfl 106 dX0_mortgage_104 rfl ?_
                refine g_iload K 4 rfl 108 dX0_mortgage_106 rfl ?_
                refine g_if_ne K 111 124 dX0_mortgage_108 rfl (by decide) (fun _ => ?_) (fun _ => ?_)
                · refine g_sub (ls' := [(0, .ref z), (4, .int x4), (6, .int v13), (7, .int j8.2.2)]) [0, 3, 5, 6] rfl ?_
                  exact h7 (v13, j8.2.2)
                · refine g_iinc K (j8.2.2 + (nI 1)) 6 [(0, .ref z), (2, .int x2), (3, .int x3), (4, .int x4), (5, .int v12), (6, .int v13), (7, .int (j8.2.2 + (nI 1)))] [1, 2, 3, 4, 5, 6, 0] rfl (by rw [ic_1]) (by decide) rfl 127 dX0_mortgage_124 rfl ?_
                  refine g_goto K 53 dX0_mortgage_127 (by decide) ?_
                  exact h10 (v12, v13, (j8.2.2 + (nI 1)))
/-- GingerRents.mark(I)I -/
def x0_mark (I : Mem) (z : Nat) (x1 : Int32) : Option (Int32 × Mem) :=
  if x1 = (-1 : Int32) then
  (x2_ends I (z + 176) 5).bind fun r4 =>
  some (r4.1, r4.2)
  else
  (x0_isIn x1 (nI 1) (nI 60)).bind fun r1 =>
  if (bI r1) = 0 then
  some ((-1 : Int32), I)
  else
  (x2_tells I (z + 176) 5 x1 (nI 0)).bind fun r2 =>
  some (r2.1, r2.2)
theorem wd_x0_mark : yX0_mark.cls = RX0 ∧ yX0_mark.cls ≠ "java/lang/invoke/MethodHandle" ∧ yX0_mark.cls ≠ "java/lang/invoke/VarHandle" ∧ (parseMethodDescriptor yX0_mark.desc).map (fun d => d.parameters.length) = some 1 := by decide +kernel
set_option maxRecDepth 100000 in
theorem ctx_x0_mark {cs : Cs} {z : Nat} {kd : Kd} (P : Ptr) (I : Mem) (x1 : Int32) (hz : kd z = (0, 0, 0)) : CtX cs z kd yX0_mark cX0_mark 2 (some .int) 1 22 [.ref z, .int x1] (P, I) (fun r => (some (.int r.1), (P, r.2))) (x0_mark I z x1) := by
  refine CtX.of RX0 (by decide) rfl (Nat.le_of_ble_eq_true rfl) ?_
  intro l D sz p e s m args below meth c hsh K hr hlk hK
  refine g_sub (ls' := [(0, .ref z), (1, .int x1)]) [0, 1] rfl ?_
  unfold x0_mark
  refine g_iloadn K 1 rfl rfl 1 dX0_mark_0 rfl ?_
  refine g_iconst K (-1 : Int32) ic_m1 2 dX0_mark_1 rfl ?_
  refine g_icmp_ne K 5 18 dX0_mark_2 rfl (by decide) (fun _ => ?_) (fun _ => ?_)
  · refine g_aloadn K 0 rfl rfl 6 dX0_mark_5 rfl ?_
    refine gx_get K hK hsh 4 (v := .ref (z + 2)) 9 in_X0 hz rfl (Nat.le_of_ble_eq_true rfl) rfl (by decide) (Or.inl q411) rfl dX0_mark_6 rfl ?_
    refine gx_get K hK hsh 4 (v := .ref (z + 176)) 12 in_X1 (sh_0_borough hsh hz) rfl (Nat.le_of_ble_eq_true rfl) rfl (by decide) (Or.inr (nf_q306 hK.2)) rfl dX0_mark_9 rfl ?_
    refine gx_call K hK hsh 15 (ctx_x2_ends P I (z + 176) 5 (sh_1_marks hsh (sh_0_borough hsh hz))) (lw_V q1310 q1311 q1312 q153 q1313) wd_x2_ends (sh_1_marks hsh (sh_0_borough hsh hz)) rfl (Nat.le_of_ble_eq_true rfl) rfl (by decide) rfl (Nat.le_of_ble_eq_true rfl) dX0_mark_12 rfl (fun r4 hr5 => ?_)
    refine g_goto K 44 dX0_mark_15 (by decide) ?_
    exact gx_iret K hK hsh hr hlk dX0_mark_44 rfl
  · refine g_iloadn K 1 rfl rfl 19 dX0_mark_18 rfl ?_
    refine g_iconst K (nI 1) ic_1 20 dX0_mark_19 rfl ?_
    refine g_bipush K (nI 60) bp_60 22 dX0_mark_20 rfl ?_
    refine g_callS K 25 (cts_x0_isIn x1 (nI 1) (nI 60)) (lw_S q478 q479 q151 q480) wds_x0_isIn (by decide) rfl (Nat.le_of_ble_eq_true rfl) dX0_mark_22 rfl (fun r1 _ => ?_)
    refine g_if_eq K 28 43 dX0_mark_25 rfl (by decide) (fun _ => ?_) (fun _ => ?_)
    · refine g_iconst K (-1 : Int32) ic_m1 44 dX0_mark_43 rfl ?_
      exact gx_iret K hK hsh hr hlk dX0_mark_44 rfl
    · refine g_aloadn K 0 rfl rfl 29 dX0_mark_28 rfl ?_
      refine gx_get K hK hsh 4 (v := .ref (z + 2)) 32 in_X0 hz rfl (Nat.le_of_ble_eq_true rfl) rfl (by decide) (Or.inl q411) rfl dX0_mark_29 rfl ?_
      refine gx_get K hK hsh 4 (v := .ref (z + 176)) 35 in_X1 (sh_0_borough hsh hz) rfl (Nat.le_of_ble_eq_true rfl) rfl (by decide) (Or.inr (nf_q306 hK.2)) rfl dX0_mark_32 rfl ?_
      refine g_iloadn K 1 rfl rfl 36 dX0_mark_35 rfl ?_
      refine g_iconst K (nI 0) ic_0 37 dX0_mark_36 rfl ?_
      refine gx_call K hK hsh 40 (ctx_x2_tells P I (z + 176) 5 x1 (nI 0) (sh_1_marks hsh (sh_0_borough hsh hz))) (lw_V q1314 q1315 q1316 q153 q1317) wd_x2_tells (sh_1_marks hsh (sh_0_borough hsh hz)) rfl (Nat.le_of_ble_eq_true rfl) rfl (by decide) rfl (Nat.le_of_ble_eq_true rfl) dX0_mark_37 rfl (fun r2 hr3 => ?_)
      refine g_goto K 44 dX0_mark_40 (by decide) ?_
      exact gx_iret K hK hsh hr hlk dX0_mark_44 rfl
/-- GingerRents.isMeasured(I)Z -/
def x0_isMeasured (I : Mem) (z : Nat) (x1 : Int32) : Option (Bool) :=
  lp (fun again2 (j1 : Int32) =>
  if (I (z + 176) 1) ≤ j1 then
  some false
  else
  (x2_first I (z + 176) 5 j1).bind fun r4 =>
  if r4 = x1 then
  some true
  else
  lp (fun again7 (j6 : Int32) =>
  if j1 ≤ j6 then
  again2 (j1 + (nI 1))
  else
  (x2_first I (z + 176) 5 j1).bind fun r9 =>
  (x2_first I (z + 176) 5 j6).bind fun r11 =>
  if (iabs (r9 - r11)) = x1 then
  some true
  else
  again7 (j6 + (nI 1))) fuel (nI 0)) fuel (nI 0)
theorem wd_x0_isMeasured : yX0_isMeasured.cls = RX0 ∧ yX0_isMeasured.cls ≠ "java/lang/invoke/MethodHandle" ∧ yX0_isMeasured.cls ≠ "java/lang/invoke/VarHandle" ∧ (parseMethodDescriptor yX0_isMeasured.desc).map (fun d => d.parameters.length) = some 1 := by decide +kernel
set_option maxRecDepth 100000 in
theorem ctx_x0_isMeasured {cs : Cs} {z : Nat} {kd : Kd} (P : Ptr) (I : Mem) (x1 : Int32) (hz : kd z = (0, 0, 0)) : CtX cs z kd yX0_isMeasured cX0_isMeasured 4 (some .boolean) 1 21 [.ref z, .int x1] (P, I) (fun r => (some (.int (bI r)), (P, I))) (x0_isMeasured I z x1) := by
  refine CtX.of RX0 (by decide) rfl (Nat.le_of_ble_eq_true rfl) ?_
  intro l D sz p e s m args below meth c hsh K hr hlk hK
  refine g_sub (ls' := [(0, .ref z), (1, .int x1)]) [0, 1] rfl ?_
  unfold x0_isMeasured
  refine g_iconst K (nI 0) ic_0 1 dX0_isMeasured_0 rfl ?_
  refine g_istoren K [(0, .ref z), (1, .int x1), (2, .int (nI 0))] [1, 2, 0] rfl (by decide) rfl 2 dX0_isMeasured_1 rfl ?_
  refine g_lp (head := 2) (L := fun j1 => [(0, .ref z), (1, .int x1), (2, .int j1)]) (sf := fun j1 => []) (mf := fun j1 => (P, I)) (fun again2 h3 j1 => ?_) fuel (nI 0)
  try dsimp only
  refine g_iloadn K 2 rfl rfl 3 dX0_isMeasured_2 rfl ?_
  refine g_aloadn K 0 rfl rfl 4 dX0_isMeasured_3 rfl ?_
  refine gx_get K hK hsh 4 (v := .ref (z + 2)) 7 in_X0 hz rfl (Nat.le_of_ble_eq_true rfl) rfl (by decide) (Or.inl q411) rfl dX0_isMeasured_4 rfl ?_
  refine gx_get K hK hsh 4 (v := .ref (z + 176)) 10 in_X1 (sh_0_borough hsh hz) rfl (Nat.le_of_ble_eq_true rfl) rfl (by decide) (Or.inr (nf_q306 hK.2)) rfl dX0_isMeasured_7 rfl ?_
  refine gx_get K hK hsh 1 (v := .int (I (z + 176) 1)) 13 in_X2 (sh_1_marks hsh (sh_0_borough hsh hz)) rfl (Nat.le_of_ble_eq_true rfl) rfl (by decide) (Or.inr (nf_q213 hK.2)) rfl dX0_isMeasured_10 rfl ?_
  refine g_icmp_ge K 16 84 dX0_isMeasured_13 rfl (by decide) (fun _ => ?_) (fun _ => ?_)
  · refine g_iconst K (nI 0) ic_0 85 dX0_isMeasured_84 rfl ?_
    exact gx_zret K hK hsh hr hlk (b := false) dX0_isMeasured_85 rfl rfl
  · refine g_aloadn K 0 rfl rfl 17 dX0_isMeasured_16 rfl ?_
    refine gx_get K hK hsh 4 (v := .ref (z + 2)) 20 in_X0 hz rfl (Nat.le_of_ble_eq_true rfl) rfl (by decide) (Or.inl q411) rfl dX0_isMeasured_17 rfl ?_
    refine gx_get K hK hsh 4 (v := .ref (z + 176)) 23 in_X1 (sh_0_borough hsh hz) rfl (Nat.le_of_ble_eq_true rfl) rfl (by decide) (Or.inr (nf_q306 hK.2)) rfl dX0_isMeasured_20 rfl ?_
    refine g_iloadn K 2 rfl rfl 24 dX0_isMeasured_23 rfl ?_
    refine gx_call K hK hsh 27 (ctx_x2_first P I (z + 176) 5 j1 (sh_1_marks hsh (sh_0_borough hsh hz))) (lw_V q1330 q1331 q1332 q153 q1333) wd_x2_first (sh_1_marks hsh (sh_0_borough hsh hz)) rfl (Nat.le_of_ble_eq_true rfl) rfl (by decide) rfl (Nat.le_of_ble_eq_true rfl) dX0_isMeasured_24 rfl (fun r4 hr5 => ?_)
    refine g_iloadn K 1 rfl rfl 28 dX0_isMeasured_27 rfl ?_
    refine g_icmp_ne K 31 33 dX0_isMeasured_28 rfl (by decide) (fun _ => ?_) (fun _ => ?_)
    · refine g_iconst K (nI 1) ic_1 32 dX0_isMeasured_31 rfl ?_
      exact gx_zret K hK hsh hr hlk (b := true) dX0_isMeasured_32 rfl rfl
    · refine g_iconst K (nI 0) ic_0 34 dX0_isMeasured_33 rfl ?_
      refine g_istoren K [(0, .ref z), (1, .int x1), (2, .int j1), (3, .int (nI 0))] [1, 2, 3, 0] rfl (by decide) rfl 35 dX0_isMeasured_34 rfl ?_
      refine g_lp (head := 35) (L := fun j6 => [(0, .ref z), (1, .int x1), (2, .int j1), (3, .int j6)]) (sf := fun j6 => []) (mf := fun j6 => (P, I)) (fun again7 h8 j6 => ?_) fuel (nI 0)
      try dsimp only
      refine g_iloadn K 3 rfl rfl 36 dX0_isMeasured_35 rfl ?_
      refine g_iloadn K 2 rfl rfl 37 dX0_isMeasured_36 rfl ?_
      refine g_icmp_ge K 40 78 dX0_isMeasured_37 rfl (by decide) (fun _ => ?_) (fun _ => ?_)
      · refine g_iinc K (j1 + (nI 1)) 2 [(0, .ref z), (1, .int x1), (2, .int (j1 + (nI 1)))] [1, 2, 0] rfl (by rw [ic_1]) (by decide) rfl 81 dX0_isMeasured_78 rfl ?_
        refine g_goto K 2 dX0_isMeasured_81 (by decide) ?_
        exact h3 (j1 + (nI 1))
      · refine g_aloadn K 0 rfl rfl 41 dX0_isMeasured_40 rfl ?_
        refine gx_get K hK hsh 4 (v := .ref (z + 2)) 44 in_X0 hz rfl (Nat.le_of_ble_eq_true rfl) rfl (by decide) (Or.inl q411) rfl dX0_isMeasured_41 rfl ?_
        refine gx_get K hK hsh 4 (v := .ref (z + 176)) 47 in_X1 (sh_0_borough hsh hz) rfl (Nat.le_of_ble_eq_true rfl) rfl (by decide) (Or.inr (nf_q306 hK.2)) rfl dX0_isMeasured_44 rfl ?_
        refine g_iloadn K 2 rfl rfl 48 dX0_isMeasured_47 rfl ?_
        refine gx_call K hK hsh 51 (ctx_x2_first P I (z + 176) 5 j1 (sh_1_marks hsh (sh_0_borough hsh hz))) (lw_V q1330 q1331 q1332 q153 q1333) wd_x2_first (sh_1_marks hsh (sh_0_borough hsh hz)) rfl (Nat.le_of_ble_eq_true rfl) rfl (by decide) rfl (Nat.le_of_ble_eq_true rfl) dX0_isMeasured_48 rfl (fun r9 hr10 => ?_)
        refine g_aloadn K 0 rfl rfl 52 dX0_isMeasured_51 rfl ?_
        refine gx_get K hK hsh 4 (v := .ref (z + 2)) 55 in_X0 hz rfl (Nat.le_of_ble_eq_true rfl) rfl (by decide) (Or.inl q411) rfl dX0_isMeasured_52 rfl ?_
        refine gx_get K hK hsh 4 (v := .ref (z + 176)) 58 in_X1 (sh_0_borough hsh hz) rfl (Nat.le_of_ble_eq_true rfl) rfl (by decide) (Or.inr (nf_q306 hK.2)) rfl dX0_isMeasured_55 rfl ?_
        refine g_iloadn K 3 rfl rfl 59 dX0_isMeasured_58 rfl ?_
        refine gx_call K hK hsh 62 (ctx_x2_first P I (z + 176) 5 j6 (sh_1_marks hsh (sh_0_borough hsh hz))) (lw_V q1330 q1331 q1332 q153 q1333) wd_x2_first (sh_1_marks hsh (sh_0_borough hsh hz)) rfl (Nat.le_of_ble_eq_true rfl) rfl (by decide) rfl (Nat.le_of_ble_eq_true rfl) dX0_isMeasured_59 rfl (fun r11 hr12 => ?_)
        refine g_isub K 63 dX0_isMeasured_62 rfl ?_
        refine g_mabs K 66 q1366 q1367 q159 q1368 (by decide) (Nat.le_of_ble_eq_true rfl) dX0_isMeasured_63 rfl ?_
        refine g_iloadn K 1 rfl rfl 67 dX0_isMeasured_66 rfl ?_
        refine g_icmp_ne K 70 72 dX0_isMeasured_67 rfl (by decide) (fun _ => ?_) (fun _ => ?_)
        · refine g_iconst K (nI 1) ic_1 71 dX0_isMeasured_70 rfl ?_
          exact gx_zret K hK hsh hr hlk (b := true) dX0_isMeasured_71 rfl rfl
        · refine g_iinc K (j6 + (nI 1)) 3 [(0, .ref z), (1, .int x1), (2, .int j1), (3, .int (j6 + (nI 1)))] [1, 2, 3, 0] rfl (by rw [ic_1]) (by decide) rfl 75 dX0_isMeasured_72 rfl ?_
          refine g_goto K 35 dX0_isMeasured_75 (by decide) ?_
          exact h8 (j6 + (nI 1))
/-- GingerRents.measures(I)I -/
def x0_measures (I : Mem) (z : Nat) (x1 : Int32) : Option (Int32) :=
  (x0_isIn x1 (nI 0) (nI 1)).bind fun r1 =>
  if (bI r1) = 0 then
  some (-1 : Int32)
  else
  jn (fun (j2 : Int32 × Int32) =>
  if x1 = 0 then
  some j2.1
  else
  some j2.2) (fun k3 =>
  lp (fun again6 (j5 : Int32 × Int32 × Int32) =>
  if j5.2.2 ≤ 0 then
  k3 (j5.1, j5.2.1)
  else
  (x0_isMeasured I z j5.2.2).bind fun r8 =>
  jn (fun (j10 : Int32) =>
  (x0_isMeasured I z j5.2.2).bind fun r13 =>
  jn (fun (j15 : Int32) =>
  again6 ((j5.1 + j10), j15, (j5.2.2 + (-1 : Int32)))) (fun k16 =>
  if (bI r13) = 0 then
  k16 j5.2.2
  else
  k16 j5.2.1)) (fun k11 =>
  if (bI r8) = 0 then
  k11 (nI 0)
  else
  k11 (nI 1))) fuel ((nI 0), (-1 : Int32), (nI 60)))
theorem wd_x0_measures : yX0_measures.cls = RX0 ∧ yX0_measures.cls ≠ "java/lang/invoke/MethodHandle" ∧ yX0_measures.cls ≠ "java/lang/invoke/VarHandle" ∧ (parseMethodDescriptor yX0_measures.desc).map (fun d => d.parameters.length) = some 1 := by decide +kernel
set_option maxRecDepth 100000 in
theorem ctx_x0_measures {cs : Cs} {z : Nat} {kd : Kd} (P : Ptr) (I : Mem) (x1 : Int32) (hz : kd z = (0, 0, 0)) : CtX cs z kd yX0_measures cX0_measures 5 (some .int) 2 44 [.ref z, .int x1] (P, I) (fun r => (some (.int r), (P, I))) (x0_measures I z x1) := by
  refine CtX.of RX0 (by decide) rfl (Nat.le_of_ble_eq_true rfl) ?_
  intro l D sz p e s m args below meth c hsh K hr hlk hK
  refine g_sub (ls' := [(0, .ref z), (1, .int x1)]) [0, 1] rfl ?_
  unfold x0_measures
  refine g_iloadn K 1 rfl rfl 1 dX0_measures_0 rfl ?_
  refine g_iconst K (nI 0) ic_0 2 dX0_measures_1 rfl ?_
  refine g_iconst K (nI 1) ic_1 3 dX0_measures_2 rfl ?_
  refine g_callS K 6 (cts_x0_isIn x1 (nI 0) (nI 1)) (lw_S q478 q479 q151 q480) wds_x0_isIn (by decide) rfl (Nat.le_of_ble_eq_true rfl) dX0_measures_3 rfl (fun r1 _ => ?_)
  refine g_if_ne K 9 11 dX0_measures_6 rfl (by decide) (fun _ => ?_) (fun _ => ?_)
  · refine g_iconst K (-1 : Int32) ic_m1 10 dX0_measures_9 rfl ?_
    exact gx_iret K hK hsh hr hlk dX0_measures_10 rfl
  · refine g_iconst K (nI 0) ic_0 12 dX0_measures_11 rfl ?_
    refine g_istoren K [(0, .ref z), (1, .int x1), (2, .int (nI 0))] [1, 2, 0] rfl (by decide) rfl 13 dX0_measures_12 rfl ?_
    refine g_iconst K (-1 : Int32) ic_m1 14 dX0_measures_13 rfl ?_
    refine g_istoren K [(0, .ref z), (1, .int x1), (2, .int (nI 0)), (3, .int (-1 : Int32))] [1, 2, 3, 0] rfl (by decide) rfl 15 dX0_measures_14 rfl ?_
    refine g_bipush K (nI 60) bp_60 17 dX0_measures_15 rfl ?_
    refine g_istore K [(0, .ref z), (1, .int x1), (2, .int (nI 0)), (3, .int (-1 : Int32)), (4, .int (nI 60))] [1, 2, 3, 4, 0] (by decide) rfl 19 dX0_measures_17 rfl ?_
    refine g_jn (head := 63) (L := fun j2 => [(0, .ref z), (1, .int x1), (2, .int j2.1), (3, .int j2.2)]) (sf := fun j2 => []) (mf := fun j2 => (P, I)) (fun j2 => ?_) (fun k3 h4 => ?_)
    · try dsimp only
      refine g_iloadn K 1 rfl rfl 64 dX0_measures_63 rfl ?_
      refine g_if_ne K 67 71 dX0_measures_64 rfl (by decide) (fun _ => ?_) (fun _ => ?_)
      · refine g_iloadn K 2 rfl rfl 68 dX0_measures_67 rfl ?_
        refine g_goto K 72 dX0_measures_68 (by decide) ?_
        exact gx_iret K hK hsh hr hlk dX0_measures_72 rfl
      · refine g_iloadn K 3 rfl rfl 72 dX0_measures_71 rfl ?_
        exact gx_iret K hK hsh hr hlk dX0_measures_72 rfl
    · refine g_lp (head := 19) (L := fun j5 => [(0, .ref z), (1, .int x1), (2, .int j5.1), (3, .int j5.2.1), (4, .int j5.2.2)]) (sf := fun j5 => []) (mf := fun j5 => (P, I)) (fun again6 h7 j5 => ?_) fuel ((nI 0), (-1 : Int32), (nI 60))
      try dsimp only
      refine g_iload K 4 rfl 21 dX0_measures_19 rfl ?_
      refine g_if_le K 24 63 dX0_measures_21 rfl (by decide) (fun _ => ?_) (fun _ => ?_)
      · refine g_sub (ls' := [(0, .ref z), (1, .int x1), (2, .int j5.1), (3, .int j5.2.1)]) [0, 1, 2, 3] rfl ?_
        exact h4 (j5.1, j5.2.1)
      · refine g_iloadn K 2 rfl rfl 25 dX0_measures_24 rfl ?_
        refine g_aloadn K 0 rfl rfl 26 dX0_measures_25 rfl ?_
        refine g_iload K 4 rfl 28 dX0_measures_26 rfl ?_
        refine gx_call K hK hsh 31 (ctx_x0_isMeasured P I j5.2.2 hz) (lw_V q1362 q1364 qs47 q151 q1365) wd_x0_isMeasured hz rfl (Nat.le_of_ble_eq_true rfl) rfl (by decide) rfl (Nat.le_of_ble_eq_true rfl) dX0_measures_28 rfl (fun r8 hr9 => ?_)
        refine g_jn (head := 39) (L := fun j10 => [(0, .ref z), (1, .int x1), (3, .int j5.2.1), (4, .int j5.2.2)]) (sf := fun j10 => [.int j10, .int j5.1]) (mf := fun j10 => (P, I)) (fun j10 => ?_) (fun k11 h12 => ?_)
        · try dsimp only
          refine g_iadd K 40 dX0_measures_39 rfl ?_
          refine g_istoren K [(0, .ref z), (1, .int x1), (2, .int (j5.1 + j10)), (3, .int j5.2.1), (4, .int j5.2.2)] [1, 2, 0, 3, 4] rfl (by decide) rfl 41 dX0_measures_40 rfl ?_
          refine g_aloadn K 0 rfl rfl 42 dX0_measures_41 rfl ?_
          refine g_iload K 4 rfl 44 dX0_measures_42 rfl ?_
          refine gx_call K hK hsh 47 (ctx_x0_isMeasured P I j5.2.2 hz) (lw_V q1362 q1364 qs47 q151 q1365) wd_x0_isMeasured hz rfl (Nat.le_of_ble_eq_true rfl) rfl (by decide) rfl (Nat.le_of_ble_eq_true rfl) dX0_measures_44 rfl (fun r13 hr14 => ?_)
          refine g_jn (head := 56) (L := fun j15 => [(0, .ref z), (1, .int x1), (2, .int (j5.1 + j10)), (4, .int j5.2.2)]) (sf := fun j15 => [.int j15]) (mf := fun j15 => (P, I)) (fun j15 => ?_) (fun k16 h17 => ?_)
          · try dsimp only
            refine g_istoren K [(0, .ref z), (1, .int x1), (2, .int (j5.1 + j10)), (3, .int j15), (4, .int j5.2.2)] [1, 2, 3, 0, 4] rfl (by decide) rfl 57 dX0_measures_56 rfl ?_
            refine g_iinc K (j5.2.2 + (-1 : Int32)) 4 [(0, .ref z), (1, .int x1), (2, .int (j5.1 + j10)), (3, .int j15), (4, .int (j5.2.2 + (-1 : Int32)))] [1, 2, 3, 4, 0] rfl (by rw [ic_m1]) (by decide) rfl 60 dX0_measures_57 rfl ?_
            refine g_goto K 19 dX0_measures_60 (by decide) ?_
            exact h7 ((j5.1 + j10), j15, (j5.2.2 + (-1 : Int32)))
          · refine g_if_eq K 50 54 dX0_measures_47 rfl (by decide) (fun _ => ?_) (fun _ => ?_)
            · refine g_iload K 4 rfl 56 dX0_measures_54 rfl ?_
              refine g_sub (ls' := [(0, .ref z), (1, .int x1), (2, .int (j5.1 + j10)), (4, .int j5.2.2)]) [0, 1, 2, 4] rfl ?_
              exact h17 j5.2.2
            · refine g_iloadn K 3 rfl rfl 51 dX0_measures_50 rfl ?_
              refine g_goto K 56 dX0_measures_51 (by decide) ?_
              refine g_sub (ls' := [(0, .ref z), (1, .int x1), (2, .int (j5.1 + j10)), (4, .int j5.2.2)]) [0, 1, 2, 4] rfl ?_
              exact h17 j5.2.1
        · refine g_if_eq K 34 38 dX0_measures_31 rfl (by decide) (fun _ => ?_) (fun _ => ?_)
          · refine g_iconst K (nI 0) ic_0 39 dX0_measures_38 rfl ?_
            refine g_sub (ls' := [(0, .ref z), (1, .int x1), (3, .int j5.2.1), (4, .int j5.2.2)]) [0, 1, 3, 4] rfl ?_
            exact h12 (nI 0)
          · refine g_iconst K (nI 1) ic_1 35 dX0_measures_34 rfl ?_
            refine g_goto K 39 dX0_measures_35 (by decide) ?_
            refine g_sub (ls' := [(0, .ref z), (1, .int x1), (3, .int j5.2.1), (4, .int j5.2.2)]) [0, 1, 3, 4] rfl ?_
            exact h12 (nI 1)
/-- GingerRents.isBite(II)Z -/
def x0_isBite (x1 : Int32) (x2 : Int32) : Option Bool :=
  (x0_isIn x1 (nI 0) (nI 255)).bind fun r1 =>
  if (bI r1) = 0 then
  some false
  else
  (x0_isIn x2 (nI 0) (nI 9)).bind fun r2 =>
  if (bI r2) = 0 then
  some false
  else
  some true
theorem wds_x0_isBite : yX0_isBite.cls ≠ "java/lang/invoke/MethodHandle" ∧ yX0_isBite.cls ≠ "java/lang/invoke/VarHandle" ∧ (parseMethodDescriptor yX0_isBite.desc).map (fun d => d.parameters.length) = some 2 := by decide +kernel
set_option maxRecDepth 100000 in
theorem cts_x0_isBite (x1 : Int32) (x2 : Int32) : CtS yX0_isBite cX0_isBite 2 (some .boolean) 1 22 [.int x1, .int x2] (fun r => some (.int (bI r))) (x0_isBite x1 x2) := by
  refine CtS.of RX0 (by decide) rfl (Nat.le_of_ble_eq_true rfl) ?_
  intro l p e s m args below meth c K hr hlk
  refine g_sub (ls' := [(0, .int x1), (1, .int x2)]) [0, 1] rfl ?_
  unfold x0_isBite
  refine g_iloadn K 0 rfl rfl 1 dX0_isBite_0 rfl ?_
  refine g_iconst K (nI 0) ic_0 2 dX0_isBite_1 rfl ?_
  refine g_sipush K (nI 255) sp_255 5 dX0_isBite_2 rfl ?_
  refine g_callS K 8 (cts_x0_isIn x1 (nI 0) (nI 255)) (lw_S q478 q479 q151 q480) wds_x0_isIn (by decide) rfl (Nat.le_of_ble_eq_true rfl) dX0_isBite_5 rfl (fun r1 _ => ?_)
  refine g_if_eq K 11 25 dX0_isBite_8 rfl (by decide) (fun _ => ?_) (fun _ => ?_)
  · refine g_iconst K (nI 0) ic_0 26 dX0_isBite_25 rfl ?_
    exact gs_zret K hr hlk (b := false) dX0_isBite_26 rfl rfl
  · refine g_iloadn K 1 rfl rfl 12 dX0_isBite_11 rfl ?_
    refine g_iconst K (nI 0) ic_0 13 dX0_isBite_12 rfl ?_
    refine g_bipush K (nI 9) bp_9 15 dX0_isBite_13 rfl ?_
    refine g_callS K 18 (cts_x0_isIn x2 (nI 0) (nI 9)) (lw_S q478 q479 q151 q480) wds_x0_isIn (by decide) rfl (Nat.le_of_ble_eq_true rfl) dX0_isBite_15 rfl (fun r2 _ => ?_)
    refine g_if_eq K 21 25 dX0_isBite_18 rfl (by decide) (fun _ => ?_) (fun _ => ?_)
    · refine g_iconst K (nI 0) ic_0 26 dX0_isBite_25 rfl ?_
      exact gs_zret K hr hlk (b := false) dX0_isBite_26 rfl rfl
    · refine g_iconst K (nI 1) ic_1 22 dX0_isBite_21 rfl ?_
      refine g_goto K 26 dX0_isBite_22 (by decide) ?_
      exact gs_zret K hr hlk (b := true) dX0_isBite_26 rfl rfl
/-- GingerRents.bite(II)I -/
def x0_bite (I : Mem) (z : Nat) (x1 : Int32) (x2 : Int32) : Option (Int32 × Mem) :=
  if x1 = (-1 : Int32) then
  (x2_ends I (z + 183) 8).bind fun r4 =>
  some (r4.1, r4.2)
  else
  (x0_isBite x1 x2).bind fun r1 =>
  if (bI r1) = 0 then
  some ((-1 : Int32), I)
  else
  (x2_tells I (z + 183) 8 x1 x2).bind fun r2 =>
  some (r2.1, r2.2)
theorem wd_x0_bite : yX0_bite.cls = RX0 ∧ yX0_bite.cls ≠ "java/lang/invoke/MethodHandle" ∧ yX0_bite.cls ≠ "java/lang/invoke/VarHandle" ∧ (parseMethodDescriptor yX0_bite.desc).map (fun d => d.parameters.length) = some 2 := by decide +kernel
set_option maxRecDepth 100000 in
theorem ctx_x0_bite {cs : Cs} {z : Nat} {kd : Kd} (P : Ptr) (I : Mem) (x1 : Int32) (x2 : Int32) (hz : kd z = (0, 0, 0)) : CtX cs z kd yX0_bite cX0_bite 3 (some .int) 2 43 [.ref z, .int x1, .int x2] (P, I) (fun r => (some (.int r.1), (P, r.2))) (x0_bite I z x1 x2) := by
  refine CtX.of RX0 (by decide) rfl (Nat.le_of_ble_eq_true rfl) ?_
  intro l D sz p e s m args below meth c hsh K hr hlk hK
  refine g_sub (ls' := [(0, .ref z), (1, .int x1), (2, .int x2)]) [0, 1, 2] rfl ?_
  unfold x0_bite
  refine g_iloadn K 1 rfl rfl 1 dX0_bite_0 rfl ?_
  refine g_iconst K (-1 : Int32) ic_m1 2 dX0_bite_1 rfl ?_
  refine g_icmp_ne K 5 18 dX0_bite_2 rfl (by decide) (fun _ => ?_) (fun _ => ?_)
  · refine g_aloadn K 0 rfl rfl 6 dX0_bite_5 rfl ?_
    refine gx_get K hK hsh 4 (v := .ref (z + 2)) 9 in_X0 hz rfl (Nat.le_of_ble_eq_true rfl) rfl (by decide) (Or.inl q411) rfl dX0_bite_6 rfl ?_
    refine gx_get K hK hsh 5 (v := .ref (z + 183)) 12 in_X1 (sh_0_borough hsh hz) rfl (Nat.le_of_ble_eq_true rfl) rfl (by decide) (Or.inr (nf_q308 hK.2)) rfl dX0_bite_9 rfl ?_
    refine gx_call K hK hsh 15 (ctx_x2_ends P I (z + 183) 8 (sh_1_bites hsh (sh_0_borough hsh hz))) (lw_V q1310 q1311 q1312 q153 q1313) wd_x2_ends (sh_1_bites hsh (sh_0_borough hsh hz)) rfl (Nat.le_of_ble_eq_true rfl) rfl (by decide) rfl (Nat.le_of_ble_eq_true rfl) dX0_bite_12 rfl (fun r4 hr5 => ?_)
    refine g_goto K 42 dX0_bite_15 (by decide) ?_
    exact gx_iret K hK hsh hr hlk dX0_bite_42 rfl
  · refine g_iloadn K 1 rfl rfl 19 dX0_bite_18 rfl ?_
    refine g_iloadn K 2 rfl rfl 20 dX0_bite_19 rfl ?_
    refine g_callS K 23 (cts_x0_isBite x1 x2) (lw_S q1373 q1374 q151 q1375) wds_x0_isBite (by decide) rfl (Nat.le_of_ble_eq_true rfl) dX0_bite_20 rfl (fun r1 _ => ?_)
    refine g_if_eq K 26 41 dX0_bite_23 rfl (by decide) (fun _ => ?_) (fun _ => ?_)
    · refine g_iconst K (-1 : Int32) ic_m1 42 dX0_bite_41 rfl ?_
      exact gx_iret K hK hsh hr hlk dX0_bite_42 rfl
    · refine g_aloadn K 0 rfl rfl 27 dX0_bite_26 rfl ?_
      refine gx_get K hK hsh 4 (v := .ref (z + 2)) 30 in_X0 hz rfl (Nat.le_of_ble_eq_true rfl) rfl (by decide) (Or.inl q411) rfl dX0_bite_27 rfl ?_
      refine gx_get K hK hsh 5 (v := .ref (z + 183)) 33 in_X1 (sh_0_borough hsh hz) rfl (Nat.le_of_ble_eq_true rfl) rfl (by decide) (Or.inr (nf_q308 hK.2)) rfl dX0_bite_30 rfl ?_
      refine g_iloadn K 1 rfl rfl 34 dX0_bite_33 rfl ?_
      refine g_iloadn K 2 rfl rfl 35 dX0_bite_34 rfl ?_
      refine gx_call K hK hsh 38 (ctx_x2_tells P I (z + 183) 8 x1 x2 (sh_1_bites hsh (sh_0_borough hsh hz))) (lw_V q1314 q1315 q1316 q153 q1317) wd_x2_tells (sh_1_bites hsh (sh_0_borough hsh hz)) rfl (Nat.le_of_ble_eq_true rfl) rfl (by decide) rfl (Nat.le_of_ble_eq_true rfl) dX0_bite_35 rfl (fun r2 hr3 => ?_)
      refine g_goto K 42 dX0_bite_38 (by decide) ?_
      exact gx_iret K hK hsh hr hlk dX0_bite_42 rfl
/-- GingerRents.whose(II)I -/
def x0_whose (I : Mem) (z : Nat) (x1 : Int32) (x2 : Int32) : Option (Int32) :=
  (x0_isBite x1 x2).bind fun r1 =>
  if (bI r1) = 0 then
  some (-1 : Int32)
  else
  lp (fun again3 (j2 : Int32 × Int32) =>
  if (I (z + 183) 1) ≤ j2.2 then
  some j2.1
  else
  (x2_first I (z + 183) 8 j2.2).bind fun r5 =>
  jn (fun (j7 : Int32) =>
  again3 ((j2.1 ||| j7), (j2.2 + (nI 1)))) (fun k8 =>
  if (x1 &&& (r5 ^^^ (-1 : Int32))) = 0 then
  (x2_second I (z + 183) 8 j2.2).bind fun r10 =>
  if r10 < x2 then
  k8 (nI 0)
  else
  k8 ((nI 1) <<< (j2.2 &&& 31))
  else
  k8 (nI 0))) fuel ((nI 0), (nI 0))
theorem wd_x0_whose : yX0_whose.cls = RX0 ∧ yX0_whose.cls ≠ "java/lang/invoke/MethodHandle" ∧ yX0_whose.cls ≠ "java/lang/invoke/VarHandle" ∧ (parseMethodDescriptor yX0_whose.desc).map (fun d => d.parameters.length) = some 2 := by decide +kernel
set_option maxRecDepth 100000 in
theorem ctx_x0_whose {cs : Cs} {z : Nat} {kd : Kd} (P : Ptr) (I : Mem) (x1 : Int32) (x2 : Int32) (hz : kd z = (0, 0, 0)) : CtX cs z kd yX0_whose cX0_whose 5 (some .int) 2 43 [.ref z, .int x1, .int x2] (P, I) (fun r => (some (.int r), (P, I))) (x0_whose I z x1 x2) := by
  refine CtX.of RX0 (by decide) rfl (Nat.le_of_ble_eq_true rfl) ?_
  intro l D sz p e s m args below meth c hsh K hr hlk hK
  refine g_sub (ls' := [(0, .ref z), (1, .int x1), (2, .int x2)]) [0, 1, 2] rfl ?_
  unfold x0_whose
  refine g_iloadn K 1 rfl rfl 1 dX0_whose_0 rfl ?_
  refine g_iloadn K 2 rfl rfl 2 dX0_whose_1 rfl ?_
  refine g_callS K 5 (cts_x0_isBite x1 x2) (lw_S q1373 q1374 q151 q1375) wds_x0_isBite (by decide) rfl (Nat.le_of_ble_eq_true rfl) dX0_whose_2 rfl (fun r1 _ => ?_)
  refine g_if_ne K 8 10 dX0_whose_5 rfl (by decide) (fun _ => ?_) (fun _ => ?_)
  · refine g_iconst K (-1 : Int32) ic_m1 9 dX0_whose_8 rfl ?_
    exact gx_iret K hK hsh hr hlk dX0_whose_9 rfl
  · refine g_iconst K (nI 0) ic_0 11 dX0_whose_10 rfl ?_
    refine g_istoren K [(0, .ref z), (1, .int x1), (2, .int x2), (3, .int (nI 0))] [1, 2, 3, 0] rfl (by decide) rfl 12 dX0_whose_11 rfl ?_
    refine g_iconst K (nI 0) ic_0 13 dX0_whose_12 rfl ?_
    refine g_istore K [(0, .ref z), (1, .int x1), (2, .int x2), (3, .int (nI 0)), (4, .int (nI 0))] [1, 2, 3, 4, 0] (by decide) rfl 15 dX0_whose_13 rfl ?_
    refine g_lp (head := 15) (L := fun j2 => [(0, .ref z), (1, .int x1), (2, .int x2), (3, .int j2.1), (4, .int j2.2)]) (sf := fun j2 => []) (mf := fun j2 => (P, I)) (fun again3 h4 j2 => ?_) fuel ((nI 0), (nI 0))
    try dsimp only
    refine g_iload K 4 rfl 17 dX0_whose_15 rfl ?_
    refine g_aloadn K 0 rfl rfl 18 dX0_whose_17 rfl ?_
    refine gx_get K hK hsh 4 (v := .ref (z + 2)) 21 in_X0 hz rfl (Nat.le_of_ble_eq_true rfl) rfl (by decide) (Or.inl q411) rfl dX0_whose_18 rfl ?_
    refine gx_get K hK hsh 5 (v := .ref (z + 183)) 24 in_X1 (sh_0_borough hsh hz) rfl (Nat.le_of_ble_eq_true rfl) rfl (by decide) (Or.inr (nf_q308 hK.2)) rfl dX0_whose_21 rfl ?_
    refine gx_get K hK hsh 1 (v := .int (I (z + 183) 1)) 27 in_X2 (sh_1_bites hsh (sh_0_borough hsh hz)) rfl (Nat.le_of_ble_eq_true rfl) rfl (by decide) (Or.inr (nf_q213 hK.2)) rfl dX0_whose_24 rfl ?_
    refine g_icmp_ge K 30 82 dX0_whose_27 rfl (by decide) (fun _ => ?_) (fun _ => ?_)
    · refine g_iloadn K 3 rfl rfl 83 dX0_whose_82 rfl ?_
      exact gx_iret K hK hsh hr hlk dX0_whose_83 rfl
    · refine g_iloadn K 3 rfl rfl 31 dX0_whose_30 rfl ?_
      refine g_iloadn K 1 rfl rfl 32 dX0_whose_31 rfl ?_
      refine g_aloadn K 0 rfl rfl 33 dX0_whose_32 rfl ?_
      refine gx_get K hK hsh 4 (v := .ref (z + 2)) 36 in_X0 hz rfl (Nat.le_of_ble_eq_true rfl) rfl (by decide) (Or.inl q411) rfl dX0_whose_33 rfl ?_
      refine gx_get K hK hsh 5 (v := .ref (z + 183)) 39 in_X1 (sh_0_borough hsh hz) rfl (Nat.le_of_ble_eq_true rfl) rfl (by decide) (Or.inr (nf_q308 hK.2)) rfl dX0_whose_36 rfl ?_
      refine g_iload K 4 rfl 41 dX0_whose_39 rfl ?_
      refine gx_call K hK hsh 44 (ctx_x2_first P I (z + 183) 8 j2.2 (sh_1_bites hsh (sh_0_borough hsh hz))) (lw_V q1330 q1331 q1332 q153 q1333) wd_x2_first (sh_1_bites hsh (sh_0_borough hsh hz)) rfl (Nat.le_of_ble_eq_true rfl) rfl (by decide) rfl (Nat.le_of_ble_eq_true rfl) dX0_whose_41 rfl (fun r5 hr6 => ?_)
      refine g_iconst K (-1 : Int32) ic_m1 45 dX0_whose_44 rfl ?_
      refine g_ixor K 46 dX0_whose_45 rfl ?_
      refine g_iand K 47 dX0_whose_46 rfl ?_
      refine g_jn (head := 74) (L := fun j7 => [(0, .ref z), (1, .int x1), (2, .int x2), (4, .int j2.2)]) (sf := fun j7 => [.int j7, .int j2.1]) (mf := fun j7 => (P, I)) (fun j7 => ?_) (fun k8 h9 => ?_)
      · try dsimp only
        refine g_ior K 75 dX0_whose_74 rfl ?_
        refine g_istoren K [(0, .ref z), (1, .int x1), (2, .int x2), (3, .int (j2.1 ||| j7)), (4, .int j2.2)] [1, 2, 3, 0, 4] rfl (by decide) rfl 76 dX0_whose_75 rfl ?_
        refine g_iinc K (j2.2 + (nI 1)) 4 [(0, .ref z), (1, .int x1), (2, .int x2), (3, .int (j2.1 ||| j7)), (4, .int (j2.2 + (nI 1)))] [1, 2, 3, 4, 0] rfl (by rw [ic_1]) (by decide) rfl 79 dX0_whose_76 rfl ?_
        refine g_goto K 15 dX0_whose_79 (by decide) ?_
        exact h4 ((j2.1 ||| j7), (j2.2 + (nI 1)))
      · refine g_if_ne K 50 73 dX0_whose_47 rfl (by decide) (fun _ => ?_) (fun _ => ?_)
        · refine g_aloadn K 0 rfl rfl 51 dX0_whose_50 rfl ?_
          refine gx_get K hK hsh 4 (v := .ref (z + 2)) 54 in_X0 hz rfl (Nat.le_of_ble_eq_true rfl) rfl (by decide) (Or.inl q411) rfl dX0_whose_51 rfl ?_
          refine gx_get K hK hsh 5 (v := .ref (z + 183)) 57 in_X1 (sh_0_borough hsh hz) rfl (Nat.le_of_ble_eq_true rfl) rfl (by decide) (Or.inr (nf_q308 hK.2)) rfl dX0_whose_54 rfl ?_
          refine g_iload K 4 rfl 59 dX0_whose_57 rfl ?_
          refine gx_call K hK hsh 62 (ctx_x2_second P I (z + 183) 8 j2.2 (sh_1_bites hsh (sh_0_borough hsh hz))) (lw_V q1380 q1381 q1382 q153 q1383) wd_x2_second (sh_1_bites hsh (sh_0_borough hsh hz)) rfl (Nat.le_of_ble_eq_true rfl) rfl (by decide) rfl (Nat.le_of_ble_eq_true rfl) dX0_whose_59 rfl (fun r10 hr11 => ?_)
          refine g_iloadn K 2 rfl rfl 63 dX0_whose_62 rfl ?_
          refine g_icmp_lt K 66 73 dX0_whose_63 rfl (by decide) (fun _ => ?_) (fun _ => ?_)
          · refine g_iconst K (nI 0) ic_0 74 dX0_whose_73 rfl ?_
            refine g_sub (ls' := [(0, .ref z), (1, .int x1), (2, .int x2), (4, .int j2.2)]) [0, 1, 2, 4] rfl ?_
            exact h9 (nI 0)
          · refine g_iconst K (nI 1) ic_1 67 dX0_whose_66 rfl ?_
            refine g_iload K 4 rfl 69 dX0_whose_67 rfl ?_
            refine g_ishl K 70 dX0_whose_69 rfl ?_
            refine g_goto K 74 dX0_whose_70 (by decide) ?_
            refine g_sub (ls' := [(0, .ref z), (1, .int x1), (2, .int x2), (4, .int j2.2)]) [0, 1, 2, 4] rfl ?_
            exact h9 ((nI 1) <<< (j2.2 &&& 31))
        · refine g_iconst K (nI 0) ic_0 74 dX0_whose_73 rfl ?_
          refine g_sub (ls' := [(0, .ref z), (1, .int x1), (2, .int x2), (4, .int j2.2)]) [0, 1, 2, 4] rfl ?_
          exact h9 (nI 0)
/-- GingerRents.crumb(I)I -/
def x0_crumb (I : Mem) (z : Nat) (x1 : Int32) : Option (Int32 × Mem) :=
  if x1 = (-1 : Int32) then
  (x2_ends I (z + 193) 16).bind fun r4 =>
  some (r4.1, r4.2)
  else
  (x0_isIn x1 (nI 0) (nI 3)).bind fun r1 =>
  if (bI r1) = 0 then
  some ((-1 : Int32), I)
  else
  (x2_tells I (z + 193) 16 x1 (nI 0)).bind fun r2 =>
  some (r2.1, r2.2)
theorem wd_x0_crumb : yX0_crumb.cls = RX0 ∧ yX0_crumb.cls ≠ "java/lang/invoke/MethodHandle" ∧ yX0_crumb.cls ≠ "java/lang/invoke/VarHandle" ∧ (parseMethodDescriptor yX0_crumb.desc).map (fun d => d.parameters.length) = some 1 := by decide +kernel
set_option maxRecDepth 100000 in
theorem ctx_x0_crumb {cs : Cs} {z : Nat} {kd : Kd} (P : Ptr) (I : Mem) (x1 : Int32) (hz : kd z = (0, 0, 0)) : CtX cs z kd yX0_crumb cX0_crumb 2 (some .int) 1 22 [.ref z, .int x1] (P, I) (fun r => (some (.int r.1), (P, r.2))) (x0_crumb I z x1) := by
  refine CtX.of RX0 (by decide) rfl (Nat.le_of_ble_eq_true rfl) ?_
  intro l D sz p e s m args below meth c hsh K hr hlk hK
  refine g_sub (ls' := [(0, .ref z), (1, .int x1)]) [0, 1] rfl ?_
  unfold x0_crumb
  refine g_iloadn K 1 rfl rfl 1 dX0_crumb_0 rfl ?_
  refine g_iconst K (-1 : Int32) ic_m1 2 dX0_crumb_1 rfl ?_
  refine g_icmp_ne K 5 18 dX0_crumb_2 rfl (by decide) (fun _ => ?_) (fun _ => ?_)
  · refine g_aloadn K 0 rfl rfl 6 dX0_crumb_5 rfl ?_
    refine gx_get K hK hsh 4 (v := .ref (z + 2)) 9 in_X0 hz rfl (Nat.le_of_ble_eq_true rfl) rfl (by decide) (Or.inl q411) rfl dX0_crumb_6 rfl ?_
    refine gx_get K hK hsh 6 (v := .ref (z + 193)) 12 in_X1 (sh_0_borough hsh hz) rfl (Nat.le_of_ble_eq_true rfl) rfl (by decide) (Or.inr (nf_q310 hK.2)) rfl dX0_crumb_9 rfl ?_
    refine gx_call K hK hsh 15 (ctx_x2_ends P I (z + 193) 16 (sh_1_crumbs hsh (sh_0_borough hsh hz))) (lw_V q1310 q1311 q1312 q153 q1313) wd_x2_ends (sh_1_crumbs hsh (sh_0_borough hsh hz)) rfl (Nat.le_of_ble_eq_true rfl) rfl (by decide) rfl (Nat.le_of_ble_eq_true rfl) dX0_crumb_12 rfl (fun r4 hr5 => ?_)
    refine g_goto K 43 dX0_crumb_15 (by decide) ?_
    exact gx_iret K hK hsh hr hlk dX0_crumb_43 rfl
  · refine g_iloadn K 1 rfl rfl 19 dX0_crumb_18 rfl ?_
    refine g_iconst K (nI 0) ic_0 20 dX0_crumb_19 rfl ?_
    refine g_iconst K (nI 3) ic_3 21 dX0_crumb_20 rfl ?_
    refine g_callS K 24 (cts_x0_isIn x1 (nI 0) (nI 3)) (lw_S q478 q479 q151 q480) wds_x0_isIn (by decide) rfl (Nat.le_of_ble_eq_true rfl) dX0_crumb_21 rfl (fun r1 _ => ?_)
    refine g_if_eq K 27 42 dX0_crumb_24 rfl (by decide) (fun _ => ?_) (fun _ => ?_)
    · refine g_iconst K (-1 : Int32) ic_m1 43 dX0_crumb_42 rfl ?_
      exact gx_iret K hK hsh hr hlk dX0_crumb_43 rfl
    · refine g_aloadn K 0 rfl rfl 28 dX0_crumb_27 rfl ?_
      refine gx_get K hK hsh 4 (v := .ref (z + 2)) 31 in_X0 hz rfl (Nat.le_of_ble_eq_true rfl) rfl (by decide) (Or.inl q411) rfl dX0_crumb_28 rfl ?_
      refine gx_get K hK hsh 6 (v := .ref (z + 193)) 34 in_X1 (sh_0_borough hsh hz) rfl (Nat.le_of_ble_eq_true rfl) rfl (by decide) (Or.inr (nf_q310 hK.2)) rfl dX0_crumb_31 rfl ?_
      refine g_iloadn K 1 rfl rfl 35 dX0_crumb_34 rfl ?_
      refine g_iconst K (nI 0) ic_0 36 dX0_crumb_35 rfl ?_
      refine gx_call K hK hsh 39 (ctx_x2_tells P I (z + 193) 16 x1 (nI 0) (sh_1_crumbs hsh (sh_0_borough hsh hz))) (lw_V q1314 q1315 q1316 q153 q1317) wd_x2_tells (sh_1_crumbs hsh (sh_0_borough hsh hz)) rfl (Nat.le_of_ble_eq_true rfl) rfl (by decide) rfl (Nat.le_of_ble_eq_true rfl) dX0_crumb_36 rfl (fun r2 hr3 => ?_)
      refine g_goto K 43 dX0_crumb_39 (by decide) ?_
      exact gx_iret K hK hsh hr hlk dX0_crumb_43 rfl
/-- GingerRents.crumbs(I)I -/
def x0_crumbs (I : Mem) (z : Nat) (x1 : Int32) : Option (Int32 × Mem) :=
  (x0_isIn x1 (nI 0) (nI 1)).bind fun r1 =>
  if (bI r1) = 0 then
  some ((-1 : Int32), I)
  else
  jn (fun (j2 : Mem) =>
  (rd j2 (z + 2437) 1089 (nI 544)).bind fun v5 =>
  (wr j2 (z + 2437) 1089 (nI 544) (v5 + (nI 1))).bind fun I6 =>
  jn (fun (j7 : Int32 × Int32 × Mem) =>
  jn (fun (j10 : Int32) =>
  if x1 = 0 then
  some (((iabs j7.1) + (iabs j7.2.1)), j7.2.2)
  else
  some (j10, j7.2.2)) (fun k11 =>
  lp (fun again14 (j13 : Int32 × Int32) =>
  if (nI 1089) ≤ j13.2 then
  k11 j13.1
  else
  (rd j7.2.2 (z + 2437) 1089 j13.2).bind fun v16 =>
  jn (fun (j17 : Int32) =>
  again14 ((j13.1 + j17), (j13.2 + (nI 1)))) (fun k18 =>
  if v16 ≤ (nI 1) then
  k18 (nI 0)
  else
  k18 (nI 1))) fuel ((nI 0), (nI 0)))) (fun k8 =>
  lp (fun again21 (j20 : Int32 × Int32 × Int32 × Mem) =>
  if (j20.2.2.2 (z + 193) 1) ≤ j20.2.2.1 then
  k8 (j20.1, j20.2.1, j20.2.2.2)
  else
  (x2_first j20.2.2.2 (z + 193) 16 j20.2.2.1).bind fun r23 =>
  jn (fun (j25 : Int32) =>
  jn (fun (j28 : Int32) =>
  (rd j20.2.2.2 (z + 2437) 1089 ((((nI 33) * ((j20.2.1 + j25) + (nI 16))) + (j20.1 + j28)) + (nI 16))).bind fun v31 =>
  (wr j20.2.2.2 (z + 2437) 1089 ((((nI 33) * ((j20.2.1 + j25) + (nI 16))) + (j20.1 + j28)) + (nI 16)) (v31 + (nI 1))).bind fun I32 =>
  again21 ((j20.1 + j28), (j20.2.1 + j25), (j20.2.2.1 + (nI 1)), I32)) (fun k29 =>
  if r23 = (nI 1) then
  k29 (nI 1)
  else
  if r23 = (nI 3) then
  k29 (-1 : Int32)
  else
  k29 (nI 0))) (fun k26 =>
  if r23 = 0 then
  k26 (nI 1)
  else
  if r23 = (nI 2) then
  k26 (-1 : Int32)
  else
  k26 (nI 0))) fuel ((nI 0), (nI 0), (nI 0), I6))) (fun k3 =>
  lp (fun again34 (j33 : Int32 × Mem) =>
  if (nI 1089) ≤ j33.1 then
  k3 j33.2
  else
  (wr j33.2 (z + 2437) 1089 j33.1 (nI 0)).bind fun I36 =>
  again34 ((j33.1 + (nI 1)), I36)) fuel ((nI 0), I))
theorem wd_x0_crumbs : yX0_crumbs.cls = RX0 ∧ yX0_crumbs.cls ≠ "java/lang/invoke/MethodHandle" ∧ yX0_crumbs.cls ≠ "java/lang/invoke/VarHandle" ∧ (parseMethodDescriptor yX0_crumbs.desc).map (fun d => d.parameters.length) = some 1 := by decide +kernel
set_option maxRecDepth 100000 in
theorem ctx_x0_crumbs {cs : Cs} {z : Nat} {kd : Kd} (P : Ptr) (I : Mem) (x1 : Int32) (hz : kd z = (0, 0, 0)) : CtX cs z kd yX0_crumbs cX0_crumbs 9 (some .int) 1 22 [.ref z, .int x1] (P, I) (fun r => (some (.int r.1), (P, r.2))) (x0_crumbs I z x1) := by
  refine CtX.of RX0 (by decide) rfl (Nat.le_of_ble_eq_true rfl) ?_
  intro l D sz p e s m args below meth c hsh K hr hlk hK
  refine g_sub (ls' := [(0, .ref z), (1, .int x1)]) [0, 1] rfl ?_
  unfold x0_crumbs
  refine g_iloadn K 1 rfl rfl 1 dX0_crumbs_0 rfl ?_
  refine g_iconst K (nI 0) ic_0 2 dX0_crumbs_1 rfl ?_
  refine g_iconst K (nI 1) ic_1 3 dX0_crumbs_2 rfl ?_
  refine g_callS K 6 (cts_x0_isIn x1 (nI 0) (nI 1)) (lw_S q478 q479 q151 q480) wds_x0_isIn (by decide) rfl (Nat.le_of_ble_eq_true rfl) dX0_crumbs_3 rfl (fun r1 _ => ?_)
  refine g_if_ne K 9 11 dX0_crumbs_6 rfl (by decide) (fun _ => ?_) (fun _ => ?_)
  · refine g_iconst K (-1 : Int32) ic_m1 10 dX0_crumbs_9 rfl ?_
    exact gx_iret K hK hsh hr hlk dX0_crumbs_10 rfl
  · refine g_iconst K (nI 0) ic_0 12 dX0_crumbs_11 rfl ?_
    refine g_istoren K [(0, .ref z), (1, .int x1), (2, .int (nI 0))] [1, 2, 0] rfl (by decide) rfl 13 dX0_crumbs_12 rfl ?_
    refine g_jn (head := 35) (L := fun j2 => [(0, .ref z), (1, .int x1)]) (sf := fun j2 => []) (mf := fun j2 => (P, j2)) (fun j2 => ?_) (fun k3 h4 => ?_)
    · try dsimp only
      refine g_iconst K (nI 0) ic_0 36 dX0_crumbs_35 rfl ?_
      refine g_istoren K [(0, .ref z), (1, .int x1), (2, .int (nI 0))] [1, 2, 0] rfl (by decide) rfl 37 dX0_crumbs_36 rfl ?_
      refine g_iconst K (nI 0) ic_0 38 dX0_crumbs_37 rfl ?_
      refine g_istoren K [(0, .ref z), (1, .int x1), (2, .int (nI 0)), (3, .int (nI 0))] [1, 2, 3, 0] rfl (by decide) rfl 39 dX0_crumbs_38 rfl ?_
      refine g_aloadn K 0 rfl rfl 40 dX0_crumbs_39 rfl ?_
      refine gx_get K hK hsh 13 (v := .ref (z + 2437)) 43 in_X0 hz rfl (Nat.le_of_ble_eq_true rfl) rfl (by decide) (Or.inl q421) rfl dX0_crumbs_40 rfl ?_
      refine g_sipush K (nI 544) sp_544 46 dX0_crumbs_43 rfl ?_
      refine g_dup2 K rfl rfl 47 dX0_crumbs_46 rfl ?_
      refine gx_ald K hK hsh 48 (sh_0_stoodOn hsh hz) dX0_crumbs_47 rfl (fun v5 => ?_)
      refine g_iconst K (nI 1) ic_1 49 dX0_crumbs_48 rfl ?_
      refine g_iadd K 50 dX0_crumbs_49 rfl ?_
      refine gx_ast K hK hsh 51 (sh_0_stoodOn hsh hz) dX0_crumbs_50 rfl (fun I6 => ?_)
      refine g_iconst K (nI 0) ic_0 52 dX0_crumbs_51 rfl ?_
      refine g_istore K [(0, .ref z), (1, .int x1), (2, .int (nI 0)), (3, .int (nI 0)), (4, .int (nI 0))] [1, 2, 3, 4, 0] (by decide) rfl 54 dX0_crumbs_52 rfl ?_
      refine g_jn (head := 157) (L := fun j7 => [(0, .ref z), (1, .int x1), (2, .int j7.1), (3, .int j7.2.1)]) (sf := fun j7 => []) (mf := fun j7 => (P, j7.2.2)) (fun j7 => ?_) (fun k8 h9 => ?_)
      · try dsimp only
        refine g_iconst K (nI 0) ic_0 158 dX0_crumbs_157 rfl ?_
        refine g_istore K [(0, .ref z), (1, .int x1), (2, .int j7.1), (3, .int j7.2.1), (4, .int (nI 0))] [1, 2, 3, 4, 0] (by decide) rfl 160 dX0_crumbs_158 rfl ?_
        refine g_aloadn K 0 rfl rfl 161 dX0_crumbs_160 rfl ?_
        refine gx_get K hK hsh 13 (v := .ref (z + 2437)) 164 in_X0 hz rfl (Nat.le_of_ble_eq_true rfl) rfl (by decide) (Or.inl q421) rfl dX0_crumbs_161 rfl ?_
        refine g_astore K [(0, .ref z), (1, .int x1), (2, .int j7.1), (3, .int j7.2.1), (4, .int (nI 0)), (5, .ref (z + 2437))] [1, 2, 3, 4, 5, 0] (by decide) rfl 166 dX0_crumbs_164 rfl ?_
        refine g_aload K 5 rfl 168 dX0_crumbs_166 rfl ?_
        refine gx_len K hK hsh 169 (sh_0_stoodOn hsh hz) (by decide) dX0_crumbs_168 rfl ?_
        refine g_istore K [(0, .ref z), (1, .int x1), (2, .int j7.1), (3, .int j7.2.1), (4, .int (nI 0)), (5, .ref (z + 2437)), (6, .int (nI 1089))] [1, 2, 3, 4, 5, 6, 0] (by decide) rfl 171 dX0_crumbs_169 rfl ?_
        refine g_iconst K (nI 0) ic_0 172 dX0_crumbs_171 rfl ?_
        refine g_istore K [(0, .ref z), (1, .int x1), (2, .int j7.1), (3, .int j7.2.1), (4, .int (nI 0)), (5, .ref (z + 2437)), (6, .int (nI 1089)), (7, .int (nI 0))] [1, 2, 3, 4, 5, 6, 7, 0] (by decide) rfl 174 dX0_crumbs_172 rfl ?_
        refine g_jn (head := 210) (L := fun j10 => [(0, .ref z), (1, .int x1), (2, .int j7.1), (3, .int j7.2.1), (4, .int j10)]) (sf := fun j10 => []) (mf := fun j10 => (P, j7.2.2)) (fun j10 => ?_) (fun k11 h12 => ?_)
        · try dsimp only
          refine g_iloadn K 1 rfl rfl 211 dX0_crumbs_210 rfl ?_
          refine g_if_ne K 214 226 dX0_crumbs_211 rfl (by decide) (fun _ => ?_) (fun _ => ?_)
          · refine g_iloadn K 2 rfl rfl 215 dX0_crumbs_214 rfl ?_
            refine g_mabs K 218 q1366 q1367 q159 q1368 (by decide) (Nat.le_of_ble_eq_true rfl) dX0_crumbs_215 rfl ?_
            refine g_iloadn K 3 rfl rfl 219 dX0_crumbs_218 rfl ?_
            refine g_mabs K 222 q1366 q1367 q159 q1368 (by decide) (Nat.le_of_ble_eq_true rfl) dX0_crumbs_219 rfl ?_
            refine g_iadd K 223 dX0_crumbs_222 rfl ?_
            refine g_goto K 228 dX0_crumbs_223 (by decide) ?_
            exact gx_iret K hK hsh hr hlk dX0_crumbs_228 rfl
          · refine g_iload K 4 rfl 228 dX0_crumbs_226 rfl ?_
            exact gx_iret K hK hsh hr hlk dX0_crumbs_228 rfl
        · refine g_lp (head := 174) (L := fun j13 => [(0, .ref z), (1, .int x1), (2, .int j7.1), (3, .int j7.2.1), (4, .int j13.1), (5, .ref (z + 2437)), (6, .int (nI 1089)), (7, .int j13.2)]) (sf := fun j13 => []) (mf := fun j13 => (P, j7.2.2)) (fun again14 h15 j13 => ?_) fuel ((nI 0), (nI 0))
          try dsimp only
          refine g_iload K 7 rfl 176 dX0_crumbs_174 rfl ?_
          refine g_iload K 6 rfl 178 dX0_crumbs_176 rfl ?_
          refine g_icmp_ge K 181 210 dX0_crumbs_178 rfl (by decide) (fun _ => ?_) (fun _ => ?_)
          · refine g_sub (ls' := [(0, .ref z), (1, .int x1), (2, .int j7.1), (3, .int j7.2.1), (4, .int j13.1)]) [0, 1, 2, 3, 4] rfl ?_
            exact h12 j13.1
          · refine g_aload K 5 rfl 183 dX0_crumbs_181 rfl ?_
            refine g_iload K 7 rfl 185 dX0_crumbs_183 rfl ?_
            refine gx_ald K hK hsh 186 (sh_0_stoodOn hsh hz) dX0_crumbs_185 rfl (fun v16 => ?_)
            refine g_istore K [(0, .ref z), (1, .int x1), (2, .int j7.1), (3, .int j7.2.1), (4, .int j13.1), (5, .ref (z + 2437)), (6, .int (nI 1089)), (7, .int j13.2), (8, .int v16)] [1, 2, 3, 4, 5, 6, 7, 8, 0] (by decide) rfl 188 dX0_crumbs_186 rfl ?_
            refine g_iload K 4 rfl 190 dX0_crumbs_188 rfl ?_
            refine g_iload K 8 rfl 192 dX0_crumbs_190 rfl ?_
            refine g_iconst K (nI 1) ic_1 193 dX0_crumbs_192 rfl ?_
            refine g_jn (head := 201) (L := fun j17 => [(0, .ref z), (1, .int x1), (2, .int j7.1), (3, .int j7.2.1), (5, .ref (z + 2437)), (6, .int (nI 1089)), (7, .int j13.2)]) (sf := fun j17 => [.int j17, .int j13.1]) (mf := fun j17 => (P, j7.2.2)) (fun j17 => ?_) (fun k18 h19 => ?_)
            · try dsimp only
              refine g_iadd K 202 dX0_crumbs_201 rfl ?_
              refine g_istore K [(0, .ref z), (1, .int x1), (2, .int j7.1), (3, .int j7.2.1), (4, .int (j13.1 + j17)), (5, .ref (z + 2437)), (6, .int (nI 1089)), (7, .int j13.2)] [1, 2, 3, 4, 0, 5, 6, 7] (by decide) rfl 204 dX0_crumbs_202 rfl ?_
              refine g_iinc K (j13.2 + (nI 1)) 7 [(0, .ref z), (1, .int x1), (2, .int j7.1), (3, .int j7.2.1), (4, .int (j13.1 + j17)), (5, .ref (z + 2437)), (6, .int (nI 1089)), (7, .int (j13.2 + (nI 1)))] [1, 2, 3, 4, 5, 6, 7, 0] rfl (by rw [ic_1]) (by decide) rfl 207 dX0_crumbs_204 rfl ?_
              refine g_goto K 174 dX0_crumbs_207 (by decide) ?_
              exact h15 ((j13.1 + j17), (j13.2 + (nI 1)))
            · refine g_icmp_le K 196 200 dX0_crumbs_193 rfl (by decide) (fun _ => ?_) (fun _ => ?_)
              · refine g_iconst K (nI 0) ic_0 201 dX0_crumbs_200 rfl ?_
                refine g_sub (ls' := [(0, .ref z), (1, .int x1), (2, .int j7.1), (3, .int j7.2.1), (5, .ref (z + 2437)), (6, .int (nI 1089)), (7, .int j13.2)]) [0, 1, 2, 3, 5, 6, 7] rfl ?_
                exact h19 (nI 0)
              · refine g_iconst K (nI 1) ic_1 197 dX0_crumbs_196 rfl ?_
                refine g_goto K 201 dX0_crumbs_197 (by decide) ?_
                refine g_sub (ls' := [(0, .ref z), (1, .int x1), (2, .int j7.1), (3, .int j7.2.1), (5, .ref (z + 2437)), (6, .int (nI 1089)), (7, .int j13.2)]) [0, 1, 2, 3, 5, 6, 7] rfl ?_
                exact h19 (nI 1)
      · refine g_lp (head := 54) (L := fun j20 => [(0, .ref z), (1, .int x1), (2, .int j20.1), (3, .int j20.2.1), (4, .int j20.2.2.1)]) (sf := fun j20 => []) (mf := fun j20 => (P, j20.2.2.2)) (fun again21 h22 j20 => ?_) fuel ((nI 0), (nI 0), (nI 0), I6)
        try dsimp only
        refine g_iload K 4 rfl 56 dX0_crumbs_54 rfl ?_
        refine g_aloadn K 0 rfl rfl 57 dX0_crumbs_56 rfl ?_
        refine gx_get K hK hsh 4 (v := .ref (z + 2)) 60 in_X0 hz rfl (Nat.le_of_ble_eq_true rfl) rfl (by decide) (Or.inl q411) rfl dX0_crumbs_57 rfl ?_
        refine gx_get K hK hsh 6 (v := .ref (z + 193)) 63 in_X1 (sh_0_borough hsh hz) rfl (Nat.le_of_ble_eq_true rfl) rfl (by decide) (Or.inr (nf_q310 hK.2)) rfl dX0_crumbs_60 rfl ?_
        refine gx_get K hK hsh 1 (v := .int (j20.2.2.2 (z + 193) 1)) 66 in_X2 (sh_1_crumbs hsh (sh_0_borough hsh hz)) rfl (Nat.le_of_ble_eq_true rfl) rfl (by decide) (Or.inr (nf_q213 hK.2)) rfl dX0_crumbs_63 rfl ?_
        refine g_icmp_ge K 69 157 dX0_crumbs_66 rfl (by decide) (fun _ => ?_) (fun _ => ?_)
        · refine g_sub (ls' := [(0, .ref z), (1, .int x1), (2, .int j20.1), (3, .int j20.2.1)]) [0, 1, 2, 3] rfl ?_
          exact h9 (j20.1, j20.2.1, j20.2.2.2)
        · refine g_aloadn K 0 rfl rfl 70 dX0_crumbs_69 rfl ?_
          refine gx_get K hK hsh 4 (v := .ref (z + 2)) 73 in_X0 hz rfl (Nat.le_of_ble_eq_true rfl) rfl (by decide) (Or.inl q411) rfl dX0_crumbs_70 rfl ?_
          refine gx_get K hK hsh 6 (v := .ref (z + 193)) 76 in_X1 (sh_0_borough hsh hz) rfl (Nat.le_of_ble_eq_true rfl) rfl (by decide) (Or.inr (nf_q310 hK.2)) rfl dX0_crumbs_73 rfl ?_
          refine g_iload K 4 rfl 78 dX0_crumbs_76 rfl ?_
          refine gx_call K hK hsh 81 (ctx_x2_first P j20.2.2.2 (z + 193) 16 j20.2.2.1 (sh_1_crumbs hsh (sh_0_borough hsh hz))) (lw_V q1330 q1331 q1332 q153 q1333) wd_x2_first (sh_1_crumbs hsh (sh_0_borough hsh hz)) rfl (Nat.le_of_ble_eq_true rfl) rfl (by decide) rfl (Nat.le_of_ble_eq_true rfl) dX0_crumbs_78 rfl (fun r23 hr24 => ?_)
          refine g_istore K [(0, .ref z), (1, .int x1), (2, .int j20.1), (3, .int j20.2.1), (4, .int j20.2.2.1), (5, .int r23)] [1, 2, 3, 4, 5, 0] (by decide) rfl 83 dX0_crumbs_81 rfl ?_
          refine g_iloadn K 3 rfl rfl 84 dX0_crumbs_83 rfl ?_
          refine g_iload K 5 rfl 86 dX0_crumbs_84 rfl ?_
          refine g_jn (head := 104) (L := fun j25 => [(0, .ref z), (1, .int x1), (2, .int j20.1), (4, .int j20.2.2.1), (5, .int r23)]) (sf := fun j25 => [.int j25, .int j20.2.1]) (mf := fun j25 => (P, j20.2.2.2)) (fun j25 => ?_) (fun k26 h27 => ?_)
          · try dsimp only
            refine g_iadd K 105 dX0_crumbs_104 rfl ?_
            refine g_istoren K [(0, .ref z), (1, .int x1), (2, .int j20.1), (3, .int (j20.2.1 + j25)), (4, .int j20.2.2.1), (5, .int r23)] [1, 2, 3, 0, 4, 5] rfl (by decide) rfl 106 dX0_crumbs_105 rfl ?_
            refine g_iloadn K 2 rfl rfl 107 dX0_crumbs_106 rfl ?_
            refine g_iload K 5 rfl 109 dX0_crumbs_107 rfl ?_
            refine g_iconst K (nI 1) ic_1 110 dX0_crumbs_109 rfl ?_
            refine g_jn (head := 128) (L := fun j28 => [(0, .ref z), (1, .int x1), (3, .int (j20.2.1 + j25)), (4, .int j20.2.2.1)]) (sf := fun j28 => [.int j28, .int j20.1]) (mf := fun j28 => (P, j20.2.2.2)) (fun j28 => ?_) (fun k29 h30 => ?_)
            · try dsimp only
              refine g_iadd K 129 dX0_crumbs_128 rfl ?_
              refine g_istoren K [(0, .ref z), (1, .int x1), (2, .int (j20.1 + j28)), (3, .int (j20.2.1 + j25)), (4, .int j20.2.2.1)] [1, 2, 0, 3, 4] rfl (by decide) rfl 130 dX0_crumbs_129 rfl ?_
              refine g_aloadn K 0 rfl rfl 131 dX0_crumbs_130 rfl ?_
              refine gx_get K hK hsh 13 (v := .ref (z + 2437)) 134 in_X0 hz rfl (Nat.le_of_ble_eq_true rfl) rfl (by decide) (Or.inl q421) rfl dX0_crumbs_131 rfl ?_
              refine g_bipush K (nI 33) bp_33 136 dX0_crumbs_134 rfl ?_
              refine g_iloadn K 3 rfl rfl 137 dX0_crumbs_136 rfl ?_
              refine g_bipush K (nI 16) bp_16 139 dX0_crumbs_137 rfl ?_
              refine g_iadd K 140 dX0_crumbs_139 rfl ?_
              refine g_imul K 141 dX0_crumbs_140 rfl ?_
              refine g_iloadn K 2 rfl rfl 142 dX0_crumbs_141 rfl ?_
              refine g_iadd K 143 dX0_crumbs_142 rfl ?_
              refine g_bipush K (nI 16) bp_16 145 dX0_crumbs_143 rfl ?_
              refine g_iadd K 146 dX0_crumbs_145 rfl ?_
              refine g_dup2 K rfl rfl 147 dX0_crumbs_146 rfl ?_
              refine gx_ald K hK hsh 148 (sh_0_stoodOn hsh hz) dX0_crumbs_147 rfl (fun v31 => ?_)
              refine g_iconst K (nI 1) ic_1 149 dX0_crumbs_148 rfl ?_
              refine g_iadd K 150 dX0_crumbs_149 rfl ?_
              refine gx_ast K hK hsh 151 (sh_0_stoodOn hsh hz) dX0_crumbs_150 rfl (fun I32 => ?_)
              refine g_iinc K (j20.2.2.1 + (nI 1)) 4 [(0, .ref z), (1, .int x1), (2, .int (j20.1 + j28)), (3, .int (j20.2.1 + j25)), (4, .int (j20.2.2.1 + (nI 1)))] [1, 2, 3, 4, 0] rfl (by rw [ic_1]) (by decide) rfl 154 dX0_crumbs_151 rfl ?_
              refine g_goto K 54 dX0_crumbs_154 (by decide) ?_
              exact h22 ((j20.1 + j28), (j20.2.1 + j25), (j20.2.2.1 + (nI 1)), I32)
            · refine g_icmp_ne K 113 117 dX0_crumbs_110 rfl (by decide) (fun _ => ?_) (fun _ => ?_)
              · refine g_iconst K (nI 1) ic_1 114 dX0_crumbs_113 rfl ?_
                refine g_goto K 128 dX0_crumbs_114 (by decide) ?_
                refine g_sub (ls' := [(0, .ref z), (1, .int x1), (3, .int (j20.2.1 + j25)), (4, .int j20.2.2.1)]) [0, 1, 3, 4] rfl ?_
                exact h30 (nI 1)
              · refine g_iload K 5 rfl 119 dX0_crumbs_117 rfl ?_
                refine g_iconst K (nI 3) ic_3 120 dX0_crumbs_119 rfl ?_
                refine g_icmp_ne K 123 127 dX0_crumbs_120 rfl (by decide) (fun _ => ?_) (fun _ => ?_)
                · refine g_iconst K (-1 : Int32) ic_m1 124 dX0_crumbs_123 rfl ?_
                  refine g_goto K 128 dX0_crumbs_124 (by decide) ?_
                  refine g_sub (ls' := [(0, .ref z), (1, .int x1), (3, .int (j20.2.1 + j25)), (4, .int j20.2.2.1)]) [0, 1, 3, 4] rfl ?_
                  exact h30 (-1 : Int32)
                · refine g_iconst K (nI 0) ic_0 128 dX0_crumbs_127 rfl ?_
                  refine g_sub (ls' := [(0, .ref z), (1, .int x1), (3, .int (j20.2.1 + j25)), (4, .int j20.2.2.1)]) [0, 1, 3, 4] rfl ?_
                  exact h30 (nI 0)
          · refine g_if_ne K 89 93 dX0_crumbs_86 rfl (by decide) (fun _ => ?_) (fun _ => ?_)
            · refine g_iconst K (nI 1) ic_1 90 dX0_crumbs_89 rfl ?_
              refine g_goto K 104 dX0_crumbs_90 (by decide) ?_
              refine g_sub (ls' := [(0, .ref z), (1, .int x1), (2, .int j20.1), (4, .int j20.2.2.1), (5, .int r23)]) [0, 1, 2, 4, 5] rfl ?_
              exact h27 (nI 1)
            · refine g_iload K 5 rfl 95 dX0_crumbs_93 rfl ?_
              refine g_iconst K (nI 2) ic_2 96 dX0_crumbs_95 rfl ?_
              refine g_icmp_ne K 99 103 dX0_crumbs_96 rfl (by decide) (fun _ => ?_) (fun _ => ?_)
              · refine g_iconst K (-1 : Int32) ic_m1 100 dX0_crumbs_99 rfl ?_
                refine g_goto K 104 dX0_crumbs_100 (by decide) ?_
                refine g_sub (ls' := [(0, .ref z), (1, .int x1), (2, .int j20.1), (4, .int j20.2.2.1), (5, .int r23)]) [0, 1, 2, 4, 5] rfl ?_
                exact h27 (-1 : Int32)
              · refine g_iconst K (nI 0) ic_0 104 dX0_crumbs_103 rfl ?_
                refine g_sub (ls' := [(0, .ref z), (1, .int x1), (2, .int j20.1), (4, .int j20.2.2.1), (5, .int r23)]) [0, 1, 2, 4, 5] rfl ?_
                exact h27 (nI 0)
    · refine g_lp (head := 13) (L := fun j33 => [(0, .ref z), (1, .int x1), (2, .int j33.1)]) (sf := fun j33 => []) (mf := fun j33 => (P, j33.2)) (fun again34 h35 j33 => ?_) fuel ((nI 0), I)
      try dsimp only
      refine g_iloadn K 2 rfl rfl 14 dX0_crumbs_13 rfl ?_
      refine g_aloadn K 0 rfl rfl 15 dX0_crumbs_14 rfl ?_
      refine gx_get K hK hsh 13 (v := .ref (z + 2437)) 18 in_X0 hz rfl (Nat.le_of_ble_eq_true rfl) rfl (by decide) (Or.inl q421) rfl dX0_crumbs_15 rfl ?_
      refine gx_len K hK hsh 19 (sh_0_stoodOn hsh hz) (by decide) dX0_crumbs_18 rfl ?_
      refine g_icmp_ge K 22 35 dX0_crumbs_19 rfl (by decide) (fun _ => ?_) (fun _ => ?_)
      · refine g_sub (ls' := [(0, .ref z), (1, .int x1)]) [0, 1] rfl ?_
        exact h4 j33.2
      · refine g_aloadn K 0 rfl rfl 23 dX0_crumbs_22 rfl ?_
        refine gx_get K hK hsh 13 (v := .ref (z + 2437)) 26 in_X0 hz rfl (Nat.le_of_ble_eq_true rfl) rfl (by decide) (Or.inl q421) rfl dX0_crumbs_23 rfl ?_
        refine g_iloadn K 2 rfl rfl 27 dX0_crumbs_26 rfl ?_
        refine g_iconst K (nI 0) ic_0 28 dX0_crumbs_27 rfl ?_
        refine gx_ast K hK hsh 29 (sh_0_stoodOn hsh hz) dX0_crumbs_28 rfl (fun I36 => ?_)
        refine g_iinc K (j33.1 + (nI 1)) 2 [(0, .ref z), (1, .int x1), (2, .int (j33.1 + (nI 1)))] [1, 2, 0] rfl (by rw [ic_1]) (by decide) rfl 32 dX0_crumbs_29 rfl ?_
        refine g_goto K 13 dX0_crumbs_32 (by decide) ?_
        exact h35 ((j33.1 + (nI 1)), I36)
