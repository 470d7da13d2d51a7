/-! ===== String's methods on the constants ===== -/
def chv (i j : Nat) : Int32 := ((sAt i j &&& nI 255).toUInt32 % 65536).toInt32
theorem wds_isLatin1 : yJ7_isLatin1.cls = "java/lang/String" ∧ yJ7_isLatin1.cls ≠ "java/lang/invoke/MethodHandle" ∧ yJ7_isLatin1.cls ≠ "java/lang/invoke/VarHandle" ∧ (parseMethodDescriptor yJ7_isLatin1.desc).map (fun d => d.parameters.length) = some 0 := by decide +kernel
theorem wds_coder : yJ7_coder.cls = "java/lang/String" ∧ yJ7_coder.cls ≠ "java/lang/invoke/MethodHandle" ∧ yJ7_coder.cls ≠ "java/lang/invoke/VarHandle" ∧ (parseMethodDescriptor yJ7_coder.desc).map (fun d => d.parameters.length) = some 0 := by decide +kernel
theorem wds_length : yJ7_length.cls = "java/lang/String" ∧ yJ7_length.cls ≠ "java/lang/invoke/MethodHandle" ∧ yJ7_length.cls ≠ "java/lang/invoke/VarHandle" ∧ (parseMethodDescriptor yJ7_length.desc).map (fun d => d.parameters.length) = some 0 := by decide +kernel
theorem wds_charAt : yJ7_charAt.cls = "java/lang/String" ∧ yJ7_charAt.cls ≠ "java/lang/invoke/MethodHandle" ∧ yJ7_charAt.cls ≠ "java/lang/invoke/VarHandle" ∧ (parseMethodDescriptor yJ7_charAt.desc).map (fun d => d.parameters.length) = some 1 := by decide +kernel
theorem wds_scheck : yJ7_checkIndex.cls ≠ "java/lang/invoke/MethodHandle" ∧ yJ7_checkIndex.cls ≠ "java/lang/invoke/VarHandle" ∧ (parseMethodDescriptor yJ7_checkIndex.desc).map (fun d => d.parameters.length) = some 2 := by decide +kernel
theorem wds_lcharAt : yJ8_charAt.cls ≠ "java/lang/invoke/MethodHandle" ∧ yJ8_charAt.cls ≠ "java/lang/invoke/VarHandle" ∧ (parseMethodDescriptor yJ8_charAt.desc).map (fun d => d.parameters.length) = some 2 := by decide +kernel
def j7_isLatin1 : Option Bool := if (1 : Int32) = 0 then some false else if (0 : Int32) = 0 then some true else some false
def j7_coder : Option Unit := if (1 : Int32) = 0 then none else some ()
set_option maxRecDepth 100000 in
theorem ctx_j7_isLatin1 {cs : Cs} {z : Nat} {kd : Kd} (P : Ptr) (I : Mem) (i : Nat) (hi : i < 27) : CtX cs z kd yJ7_isLatin1 cJ7_isLatin1 1 (some .boolean) 0 0 [.ref (cs (100 + i))] (P, I) (fun r => (some (.int (bI r)), (P, I))) j7_isLatin1 := by
  refine CtX.of RJ7 (by decide) rfl (Nat.le_of_ble_eq_true rfl) ?_
  intro l D sz p e s m args below meth c hsh K hr hlk hK
  refine g_sub (ls' := [(0, .ref (cs (100 + i)))]) [0] rfl ?_
  unfold j7_isLatin1
  refine gx_gcomp K hK 3 q565 dJ7_isLatin1_0 rfl ?_
  refine g_if_eq K 6 17 dJ7_isLatin1_3 rfl (by decide) (fun _ => ?_) (fun _ => ?_)
  · refine g_iconst K (nI 0) ic_0 18 dJ7_isLatin1_17 rfl ?_
    exact gx_zret K hK hsh hr hlk (b := false) dJ7_isLatin1_18 rfl rfl
  · refine g_aloadn K 0 rfl rfl 7 dJ7_isLatin1_6 rfl ?_
    refine gx_scod K hK i hi 10 q2289 dJ7_isLatin1_7 rfl ?_
    refine g_if_ne K 13 17 dJ7_isLatin1_10 rfl (by decide) (fun _ => ?_) (fun _ => ?_)
    · refine g_iconst K (nI 1) ic_1 14 dJ7_isLatin1_13 rfl ?_
      refine g_goto K 18 dJ7_isLatin1_14 (by decide) ?_
      exact gx_zret K hK hsh hr hlk (b := true) dJ7_isLatin1_18 rfl rfl
    · refine g_iconst K (nI 0) ic_0 18 dJ7_isLatin1_17 rfl ?_
      exact gx_zret K hK hsh hr hlk (b := false) dJ7_isLatin1_18 rfl rfl
set_option maxRecDepth 100000 in
theorem ctx_j7_coder {cs : Cs} {z : Nat} {kd : Kd} (P : Ptr) (I : Mem) (i : Nat) (hi : i < 27) : CtX cs z kd yJ7_coder cJ7_coder 1 (some .byte) 0 0 [.ref (cs (100 + i))] (P, I) (fun _ => (some (.int 0), (P, I))) j7_coder := by
  refine CtX.of RJ7 (by decide) rfl (Nat.le_of_ble_eq_true rfl) ?_
  intro l D sz p e s m args below meth c hsh K hr hlk hK
  refine g_sub (ls' := [(0, .ref (cs (100 + i)))]) [0] rfl ?_
  unfold j7_coder
  refine gx_gcomp K hK 3 q565 dJ7_coder_0 rfl ?_
  refine g_if_eq K 6 13 dJ7_coder_3 rfl (by decide) (fun _ => ?_) (fun _ => ?_)
  · exact g_none
  · refine g_aloadn K 0 rfl rfl 7 dJ7_coder_6 rfl ?_
    refine gx_scod K hK i hi 10 q2289 dJ7_coder_7 rfl ?_
    refine g_goto K 14 dJ7_coder_10 (by decide) ?_
    exact gx_nret K hK hr hlk dJ7_coder_14 rfl rfl
def j7_length (i : Nat) : Option Int32 := (j7_coder).bind fun _ => some ((nI (sLen i)) >>> ((0 : Int32) &&& 31))
set_option maxRecDepth 100000 in
theorem ctx_j7_length {cs : Cs} {z : Nat} {kd : Kd} (P : Ptr) (I : Mem) (i : Nat) (hi : i < 27) : CtX cs z kd yJ7_length cJ7_length 1 (some .int) 1 20 [.ref (cs (100 + i))] (P, I) (fun r => (some (.int r), (P, I))) (j7_length i) := by
  refine CtX.of RJ7 (by decide) rfl (Nat.le_of_ble_eq_true rfl) ?_
  intro l D sz p e s m args below meth c hsh K hr hlk hK
  refine g_sub (ls' := [(0, .ref (cs (100 + i)))]) [0] rfl ?_
  unfold j7_length
  refine g_aloadn K 0 rfl rfl 1 dJ7_length_0 rfl ?_
  refine gx_sval K hK i hi 4 q2288 dJ7_length_1 rfl ?_
  refine gx_slen K hK i hi 5 dJ7_length_4 rfl ?_
  refine g_aloadn K 0 rfl rfl 6 dJ7_length_5 rfl ?_
  refine gx_calls K hK hsh i hi 9 (ctx_j7_coder P I i hi) (lw_V q561 q562 q563 q164 q564) wds_coder (by decide) rfl (Nat.le_of_ble_eq_true rfl) dJ7_length_6 rfl (fun r2 _ => ?_)
  refine g_ishr K 10 dJ7_length_9 rfl ?_
  exact gx_iret K hK hsh hr hlk dJ7_length_10 rfl
set_option maxRecDepth 100000 in
theorem cts_j6_checkIndexR (x1 x2 : Int32) (b : Nat) : CtS yJ6_checkIndex cJ6_checkIndex 3 (some .int) 0 0 [.int x1, .int x2, .ref b] (fun r => some (.int r)) (j6_checkIndex x1 x2) := by
  refine CtS.of RJ6 (by decide) rfl (Nat.le_of_ble_eq_true rfl) ?_
  intro l p e s m args below meth c K hr hlk
  refine g_sub (ls' := [(0, .int x1), (1, .int x2), (2, .ref b)]) [0, 1, 2] rfl ?_
  unfold j6_checkIndex
  refine g_iloadn K 0 rfl rfl 1 dJ6_checkIndex_0 rfl ?_
  refine g_if_lt K 4 9 dJ6_checkIndex_1 rfl (by decide) (fun _ => ?_) (fun _ => ?_)
  · exact g_none
  · refine g_iloadn K 0 rfl rfl 5 dJ6_checkIndex_4 rfl ?_
    refine g_iloadn K 1 rfl rfl 6 dJ6_checkIndex_5 rfl ?_
    refine g_icmp_lt K 9 16 dJ6_checkIndex_6 rfl (by decide) (fun _ => ?_) (fun _ => ?_)
    · refine g_iloadn K 0 rfl rfl 17 dJ6_checkIndex_16 rfl ?_
      exact gs_iret K hr hlk dJ6_checkIndex_17 rfl
    · exact g_none
def j7_checkIndex (x1 x2 : Int32) : Option Unit := (j6_checkIndex x1 x2).bind fun _ => some ()
set_option maxRecDepth 100000 in
theorem ctx_j7_checkIndex {cs : Cs} {z : Nat} {kd : Kd} (P : Ptr) (I : Mem) (x1 x2 : Int32) : CtX cs z kd yJ7_checkIndex cJ7_checkIndex 2 none 1 22 [.int x1, .int x2] (P, I) (fun _ => (none, (P, I))) (j7_checkIndex x1 x2) := by
  refine CtX.of RJ7 (by decide) rfl (Nat.le_of_ble_eq_true rfl) ?_
  intro l D sz p e s m args below meth c hsh K hr hlk hK
  refine g_sub (ls' := [(0, .int x1), (1, .int x2)]) [0, 1] rfl ?_
  unfold j7_checkIndex
  refine g_iloadn K 0 rfl rfl 1 dJ7_checkIndex_0 rfl ?_
  refine g_iloadn K 1 rfl rfl 2 dJ7_checkIndex_1 rfl ?_
  refine gx_gfmt K hK 5 q581 dJ7_checkIndex_2 rfl ?_ (fun b => ?_)
  · refine g_callS K 8 (cts_j6_checkIndex x1 x2) (lw_S q583 q584 q162 q585) wds_j6_checkIndex (by decide) rfl (Nat.le_of_ble_eq_true rfl) dJ7_checkIndex_5 rfl (fun r2 _ => ?_)
    refine g_pop K rfl 9 dJ7_checkIndex_8 rfl ?_
    exact gx_vret K hK hsh hr hlk dJ7_checkIndex_9 rfl
  · refine g_callS K 8 (cts_j6_checkIndexR x1 x2 b) (lw_S q583 q584 q162 q585) wds_j6_checkIndex (by decide) rfl (Nat.le_of_ble_eq_true rfl) dJ7_checkIndex_5 rfl (fun r2 _ => ?_)
    refine g_pop K rfl 9 dJ7_checkIndex_8 rfl ?_
    exact gx_vret K hK hsh hr hlk dJ7_checkIndex_9 rfl
def j8_charAt (i : Nat) (x2 : Int32) : Option Nat := (j7_checkIndex x2 (nI (sLen i))).bind fun _ => (ix (sLen i) x2).bind fun j => some j
theorem chv_nar (i j : Nat) : narrow .char (.int (chv i j)) = .int (chv i j) := by
  unfold chv
  have h : ∀ u : UInt32, narrow .char (.int (u % 65536).toInt32) = .int (u % 65536).toInt32 := by
    intro u
    have e : (u % 65536).toInt32.toUInt32 = u % 65536 := by simp
    have e2 : u % 65536 % 65536 = u % 65536 := by
      apply UInt32.toNat_inj.mp
      simp
    simp only [narrow, e, e2]
    first | rfl | (congr 1; first | rfl | (apply congrArg; apply UInt32.toNat_inj.mp; simp) | simp [e2])
  exact h _
set_option maxRecDepth 100000 in
theorem ctx_j8_charAt {cs : Cs} {z : Nat} {kd : Kd} (P : Ptr) (I : Mem) (i : Nat) (hi : i < 27) (x2 : Int32) : CtX cs z kd yJ8_charAt cJ8_charAt 2 (some .char) 2 43 [.ref (cs (200 + i)), .int x2] (P, I) (fun j => (some (.int (chv i j)), (P, I))) (j8_charAt i x2) := by
  refine CtX.of RJ8 (by decide) rfl (Nat.le_of_ble_eq_true rfl) ?_
  intro l D sz p e s m args below meth c hsh K hr hlk hK
  refine g_sub (ls' := [(0, .ref (cs (200 + i))), (1, .int x2)]) [0, 1] rfl ?_
  unfold j8_charAt
  refine g_iloadn K 1 rfl rfl 1 dJ8_charAt_0 rfl ?_
  refine g_aloadn K 0 rfl rfl 2 dJ8_charAt_1 rfl ?_
  refine gx_slen K hK i hi 3 dJ8_charAt_2 rfl ?_
  refine gx_callSt K hK hsh 6 (ctx_j7_checkIndex P I x2 (nI (sLen i))) (lw_S q578 q579 q164 q580) wds_scheck (by decide) rfl (Nat.le_of_ble_eq_true rfl) dJ8_charAt_3 rfl (fun r2 _ => ?_)
  refine g_aloadn K 0 rfl rfl 7 dJ8_charAt_6 rfl ?_
  refine g_iloadn K 1 rfl rfl 8 dJ8_charAt_7 rfl ?_
  refine gx_sbld K hK i hi 9 dJ8_charAt_8 rfl (fun j _ => ?_)
  refine g_sipush K (nI 255) sp_255 12 dJ8_charAt_9 rfl ?_
  refine g_iand K 13 dJ8_charAt_12 rfl ?_
  refine gx_i2c K 14 dJ8_charAt_13 rfl ?_
  exact gx_nret K hK hr hlk dJ8_charAt_14 (chv_nar i j) rfl
def j7_charAt (i : Nat) (x1 : Int32) : Option Nat := (j7_isLatin1).bind fun r => if bI r = 0 then none else (j8_charAt i x1).bind fun j => some j
set_option maxRecDepth 100000 in
theorem ctx_j7_charAt {cs : Cs} {z : Nat} {kd : Kd} (P : Ptr) (I : Mem) (i : Nat) (hi : i < 27) (x1 : Int32) : CtX cs z kd yJ7_charAt cJ7_charAt 2 (some .char) 3 64 [.ref (cs (100 + i)), .int x1] (P, I) (fun j => (some (.int (chv i j)), (P, I))) (j7_charAt i x1) := by
  refine CtX.of RJ7 (by decide) rfl (Nat.le_of_ble_eq_true rfl) ?_
  intro l D sz p e s m args below meth c hsh K hr hlk hK
  refine g_sub (ls' := [(0, .ref (cs (100 + i))), (1, .int x1)]) [0, 1] rfl ?_
  unfold j7_charAt
  refine g_aloadn K 0 rfl rfl 1 dJ7_charAt_0 rfl ?_
  refine gx_calls K hK hsh i hi 4 (ctx_j7_isLatin1 P I i hi) (lw_V q571 q572 q573 q164 q574) wds_isLatin1 (by decide) rfl (Nat.le_of_ble_eq_true rfl) dJ7_charAt_1 rfl (fun r2 _ => ?_)
  refine g_if_eq K 7 16 dJ7_charAt_4 rfl (by decide) (fun _ => ?_) (fun _ => ?_)
  · exact g_none
  · refine g_aloadn K 0 rfl rfl 8 dJ7_charAt_7 rfl ?_
    refine gx_sval K hK i hi 11 q2288 dJ7_charAt_8 rfl ?_
    refine g_iloadn K 1 rfl rfl 12 dJ7_charAt_11 rfl ?_
    refine gx_callSt K hK hsh 15 (ctx_j8_charAt P I i hi x1) (lw_S q575 q576 q165 q577) wds_lcharAt (by decide) rfl (Nat.le_of_ble_eq_true rfl) dJ7_charAt_12 rfl (fun j _ => ?_)
    exact gx_nret K hK hr hlk dJ7_charAt_15 (chv_nar i j) rfl
