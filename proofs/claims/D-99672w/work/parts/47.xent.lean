/-- GingerRents$Entry.isOf(I)Z -/
def x13_isOf (I : Mem) (a : Nat) (x1 : Int32) : Option (Bool) :=
  if (I a 0) = x1 then
  some true
  else
  some false
set_option maxRecDepth 100000 in
theorem ctx_x13_isOf_12 {cs : Cs} {z : Nat} {kd : Kd} (P : Ptr) (I : Mem) (a : Nat) (x1 : Int32) (ha : kd a = (12, 0, 0)) : CtX cs z kd yX13_isOf cX13_isOf 2 (some .boolean) 0 0 [.ref a, .int x1] (P, I) (fun r => (some (.int (bI r)), (P, I))) (x13_isOf I a x1) := by
  refine CtX.of RX13 (by decide) rfl (Nat.le_of_ble_eq_true rfl) ?_
  intro l D sz p e s m args below meth c hsh K hr hlk hK
  refine g_sub (ls' := [(0, .ref a), (1, .int x1)]) [0, 1] rfl ?_
  unfold x13_isOf
  refine g_aloadn K 0 rfl rfl 1 dX13_isOf_0 rfl ?_
  refine gx_get K hK hsh 0 (v := .int (I a 0)) 4 in_X14 ha rfl (Nat.le_of_ble_eq_true rfl) rfl (by decide) (Or.inl q903) rfl dX13_isOf_1 rfl ?_
  refine g_iloadn K 1 rfl rfl 5 dX13_isOf_4 rfl ?_
  refine g_icmp_ne K 8 12 dX13_isOf_5 rfl (by decide) (fun _ => ?_) (fun _ => ?_)
  · refine g_iconst K (nI 1) ic_1 9 dX13_isOf_8 rfl ?_
    refine g_goto K 13 dX13_isOf_9 (by decide) ?_
    exact gx_zret K hK hsh hr hlk (b := true) dX13_isOf_13 rfl rfl
  · refine g_iconst K (nI 0) ic_0 13 dX13_isOf_12 rfl ?_
    exact gx_zret K hK hsh hr hlk (b := false) dX13_isOf_13 rfl rfl
set_option maxRecDepth 100000 in
theorem ctx_x13_isOf_13 {cs : Cs} {z : Nat} {kd : Kd} (P : Ptr) (I : Mem) (a : Nat) (x1 : Int32) (ha : kd a = (13, 0, 0)) : CtX cs z kd yX13_isOf cX13_isOf 2 (some .boolean) 0 0 [.ref a, .int x1] (P, I) (fun r => (some (.int (bI r)), (P, I))) (x13_isOf I a x1) := by
  refine CtX.of RX13 (by decide) rfl (Nat.le_of_ble_eq_true rfl) ?_
  intro l D sz p e s m args below meth c hsh K hr hlk hK
  refine g_sub (ls' := [(0, .ref a), (1, .int x1)]) [0, 1] rfl ?_
  unfold x13_isOf
  refine g_aloadn K 0 rfl rfl 1 dX13_isOf_0 rfl ?_
  refine gx_get K hK hsh 0 (v := .int (I a 0)) 4 in_X15 ha rfl (Nat.le_of_ble_eq_true rfl) rfl (by decide) (Or.inl q903) rfl dX13_isOf_1 rfl ?_
  refine g_iloadn K 1 rfl rfl 5 dX13_isOf_4 rfl ?_
  refine g_icmp_ne K 8 12 dX13_isOf_5 rfl (by decide) (fun _ => ?_) (fun _ => ?_)
  · refine g_iconst K (nI 1) ic_1 9 dX13_isOf_8 rfl ?_
    refine g_goto K 13 dX13_isOf_9 (by decide) ?_
    exact gx_zret K hK hsh hr hlk (b := true) dX13_isOf_13 rfl rfl
  · refine g_iconst K (nI 0) ic_0 13 dX13_isOf_12 rfl ?_
    exact gx_zret K hK hsh hr hlk (b := false) dX13_isOf_13 rfl rfl
set_option maxRecDepth 100000 in
theorem ctx_x13_isOf_14 {cs : Cs} {z : Nat} {kd : Kd} (P : Ptr) (I : Mem) (a : Nat) (x1 : Int32) (ha : kd a = (14, 0, 0)) : CtX cs z kd yX13_isOf cX13_isOf 2 (some .boolean) 0 0 [.ref a, .int x1] (P, I) (fun r => (some (.int (bI r)), (P, I))) (x13_isOf I a x1) := by
  refine CtX.of RX13 (by decide) rfl (Nat.le_of_ble_eq_true rfl) ?_
  intro l D sz p e s m args below meth c hsh K hr hlk hK
  refine g_sub (ls' := [(0, .ref a), (1, .int x1)]) [0, 1] rfl ?_
  unfold x13_isOf
  refine g_aloadn K 0 rfl rfl 1 dX13_isOf_0 rfl ?_
  refine gx_get K hK hsh 0 (v := .int (I a 0)) 4 in_X16 ha rfl (Nat.le_of_ble_eq_true rfl) rfl (by decide) (Or.inl q903) rfl dX13_isOf_1 rfl ?_
  refine g_iloadn K 1 rfl rfl 5 dX13_isOf_4 rfl ?_
  refine g_icmp_ne K 8 12 dX13_isOf_5 rfl (by decide) (fun _ => ?_) (fun _ => ?_)
  · refine g_iconst K (nI 1) ic_1 9 dX13_isOf_8 rfl ?_
    refine g_goto K 13 dX13_isOf_9 (by decide) ?_
    exact gx_zret K hK hsh hr hlk (b := true) dX13_isOf_13 rfl rfl
  · refine g_iconst K (nI 0) ic_0 13 dX13_isOf_12 rfl ?_
    exact gx_zret K hK hsh hr hlk (b := false) dX13_isOf_13 rfl rfl
set_option maxRecDepth 100000 in
theorem ctx_x13_isOf_15 {cs : Cs} {z : Nat} {kd : Kd} (P : Ptr) (I : Mem) (a : Nat) (x1 : Int32) (ha : kd a = (15, 0, 0)) : CtX cs z kd yX13_isOf cX13_isOf 2 (some .boolean) 0 0 [.ref a, .int x1] (P, I) (fun r => (some (.int (bI r)), (P, I))) (x13_isOf I a x1) := by
  refine CtX.of RX13 (by decide) rfl (Nat.le_of_ble_eq_true rfl) ?_
  intro l D sz p e s m args below meth c hsh K hr hlk hK
  refine g_sub (ls' := [(0, .ref a), (1, .int x1)]) [0, 1] rfl ?_
  unfold x13_isOf
  refine g_aloadn K 0 rfl rfl 1 dX13_isOf_0 rfl ?_
  refine gx_get K hK hsh 0 (v := .int (I a 0)) 4 in_X17 ha rfl (Nat.le_of_ble_eq_true rfl) rfl (by decide) (Or.inl q903) rfl dX13_isOf_1 rfl ?_
  refine g_iloadn K 1 rfl rfl 5 dX13_isOf_4 rfl ?_
  refine g_icmp_ne K 8 12 dX13_isOf_5 rfl (by decide) (fun _ => ?_) (fun _ => ?_)
  · refine g_iconst K (nI 1) ic_1 9 dX13_isOf_8 rfl ?_
    refine g_goto K 13 dX13_isOf_9 (by decide) ?_
    exact gx_zret K hK hsh hr hlk (b := true) dX13_isOf_13 rfl rfl
  · refine g_iconst K (nI 0) ic_0 13 dX13_isOf_12 rfl ?_
    exact gx_zret K hK hsh hr hlk (b := false) dX13_isOf_13 rfl rfl
set_option maxRecDepth 100000 in
theorem ctx_x13_isOf_16 {cs : Cs} {z : Nat} {kd : Kd} (P : Ptr) (I : Mem) (a : Nat) (x1 : Int32) (ha : kd a = (16, 0, 0)) : CtX cs z kd yX13_isOf cX13_isOf 2 (some .boolean) 0 0 [.ref a, .int x1] (P, I) (fun r => (some (.int (bI r)), (P, I))) (x13_isOf I a x1) := by
  refine CtX.of RX13 (by decide) rfl (Nat.le_of_ble_eq_true rfl) ?_
  intro l D sz p e s m args below meth c hsh K hr hlk hK
  refine g_sub (ls' := [(0, .ref a), (1, .int x1)]) [0, 1] rfl ?_
  unfold x13_isOf
  refine g_aloadn K 0 rfl rfl 1 dX13_isOf_0 rfl ?_
  refine gx_get K hK hsh 0 (v := .int (I a 0)) 4 in_X18 ha rfl (Nat.le_of_ble_eq_true rfl) rfl (by decide) (Or.inl q903) rfl dX13_isOf_1 rfl ?_
  refine g_iloadn K 1 rfl rfl 5 dX13_isOf_4 rfl ?_
  refine g_icmp_ne K 8 12 dX13_isOf_5 rfl (by decide) (fun _ => ?_) (fun _ => ?_)
  · refine g_iconst K (nI 1) ic_1 9 dX13_isOf_8 rfl ?_
    refine g_goto K 13 dX13_isOf_9 (by decide) ?_
    exact gx_zret K hK hsh hr hlk (b := true) dX13_isOf_13 rfl rfl
  · refine g_iconst K (nI 0) ic_0 13 dX13_isOf_12 rfl ?_
    exact gx_zret K hK hsh hr hlk (b := false) dX13_isOf_13 rfl rfl
set_option maxRecDepth 100000 in
theorem ctx_x13_isOf_17 {cs : Cs} {z : Nat} {kd : Kd} (P : Ptr) (I : Mem) (a : Nat) (x1 : Int32) (ha : kd a = (17, 0, 0)) : CtX cs z kd yX13_isOf cX13_isOf 2 (some .boolean) 0 0 [.ref a, .int x1] (P, I) (fun r => (some (.int (bI r)), (P, I))) (x13_isOf I a x1) := by
  refine CtX.of RX13 (by decide) rfl (Nat.le_of_ble_eq_true rfl) ?_
  intro l D sz p e s m args below meth c hsh K hr hlk hK
  refine g_sub (ls' := [(0, .ref a), (1, .int x1)]) [0, 1] rfl ?_
  unfold x13_isOf
  refine g_aloadn K 0 rfl rfl 1 dX13_isOf_0 rfl ?_
  refine gx_get K hK hsh 0 (v := .int (I a 0)) 4 in_X19 ha rfl (Nat.le_of_ble_eq_true rfl) rfl (by decide) (Or.inl q903) rfl dX13_isOf_1 rfl ?_
  refine g_iloadn K 1 rfl rfl 5 dX13_isOf_4 rfl ?_
  refine g_icmp_ne K 8 12 dX13_isOf_5 rfl (by decide) (fun _ => ?_) (fun _ => ?_)
  · refine g_iconst K (nI 1) ic_1 9 dX13_isOf_8 rfl ?_
    refine g_goto K 13 dX13_isOf_9 (by decide) ?_
    exact gx_zret K hK hsh hr hlk (b := true) dX13_isOf_13 rfl rfl
  · refine g_iconst K (nI 0) ic_0 13 dX13_isOf_12 rfl ?_
    exact gx_zret K hK hsh hr hlk (b := false) dX13_isOf_13 rfl rfl
theorem wdi_x13_isOf : "GingerRents$Entry" ≠ "java/lang/invoke/MethodHandle" ∧ "GingerRents$Entry" ≠ "java/lang/invoke/VarHandle" ∧ (parseMethodDescriptor "(I)Z").map (fun d => d.parameters.length) = some 1 := by decide +kernel
/-- GingerRents$Entry.one()I -/
def x13_one (I : Mem) (a : Nat) : Option (Int32) :=
  some (I a 1)
set_option maxRecDepth 100000 in
theorem ctx_x13_one_12 {cs : Cs} {z : Nat} {kd : Kd} (P : Ptr) (I : Mem) (a : Nat) (ha : kd a = (12, 0, 0)) : CtX cs z kd yX13_one cX13_one 1 (some .int) 0 0 [.ref a] (P, I) (fun r => (some (.int r), (P, I))) (x13_one I a) := by
  refine CtX.of RX13 (by decide) rfl (Nat.le_of_ble_eq_true rfl) ?_
  intro l D sz p e s m args below meth c hsh K hr hlk hK
  refine g_sub (ls' := [(0, .ref a)]) [0] rfl ?_
  unfold x13_one
  refine g_aloadn K 0 rfl rfl 1 dX13_one_0 rfl ?_
  refine gx_get K hK hsh 1 (v := .int (I a 1)) 4 in_X14 ha rfl (Nat.le_of_ble_eq_true rfl) rfl (by decide) (Or.inl q904) rfl dX13_one_1 rfl ?_
  exact gx_iret K hK hsh hr hlk dX13_one_4 rfl
set_option maxRecDepth 100000 in
theorem ctx_x13_one_13 {cs : Cs} {z : Nat} {kd : Kd} (P : Ptr) (I : Mem) (a : Nat) (ha : kd a = (13, 0, 0)) : CtX cs z kd yX13_one cX13_one 1 (some .int) 0 0 [.ref a] (P, I) (fun r => (some (.int r), (P, I))) (x13_one I a) := by
  refine CtX.of RX13 (by decide) rfl (Nat.le_of_ble_eq_true rfl) ?_
  intro l D sz p e s m args below meth c hsh K hr hlk hK
  refine g_sub (ls' := [(0, .ref a)]) [0] rfl ?_
  unfold x13_one
  refine g_aloadn K 0 rfl rfl 1 dX13_one_0 rfl ?_
  refine gx_get K hK hsh 1 (v := .int (I a 1)) 4 in_X15 ha rfl (Nat.le_of_ble_eq_true rfl) rfl (by decide) (Or.inl q904) rfl dX13_one_1 rfl ?_
  exact gx_iret K hK hsh hr hlk dX13_one_4 rfl
set_option maxRecDepth 100000 in
theorem ctx_x13_one_14 {cs : Cs} {z : Nat} {kd : Kd} (P : Ptr) (I : Mem) (a : Nat) (ha : kd a = (14, 0, 0)) : CtX cs z kd yX13_one cX13_one 1 (some .int) 0 0 [.ref a] (P, I) (fun r => (some (.int r), (P, I))) (x13_one I a) := by
  refine CtX.of RX13 (by decide) rfl (Nat.le_of_ble_eq_true rfl) ?_
  intro l D sz p e s m args below meth c hsh K hr hlk hK
  refine g_sub (ls' := [(0, .ref a)]) [0] rfl ?_
  unfold x13_one
  refine g_aloadn K 0 rfl rfl 1 dX13_one_0 rfl ?_
  refine gx_get K hK hsh 1 (v := .int (I a 1)) 4 in_X16 ha rfl (Nat.le_of_ble_eq_true rfl) rfl (by decide) (Or.inl q904) rfl dX13_one_1 rfl ?_
  exact gx_iret K hK hsh hr hlk dX13_one_4 rfl
set_option maxRecDepth 100000 in
theorem ctx_x13_one_15 {cs : Cs} {z : Nat} {kd : Kd} (P : Ptr) (I : Mem) (a : Nat) (ha : kd a = (15, 0, 0)) : CtX cs z kd yX13_one cX13_one 1 (some .int) 0 0 [.ref a] (P, I) (fun r => (some (.int r), (P, I))) (x13_one I a) := by
  refine CtX.of RX13 (by decide) rfl (Nat.le_of_ble_eq_true rfl) ?_
  intro l D sz p e s m args below meth c hsh K hr hlk hK
  refine g_sub (ls' := [(0, .ref a)]) [0] rfl ?_
  unfold x13_one
  refine g_aloadn K 0 rfl rfl 1 dX13_one_0 rfl ?_
  refine gx_get K hK hsh 1 (v := .int (I a 1)) 4 in_X17 ha rfl (Nat.le_of_ble_eq_true rfl) rfl (by decide) (Or.inl q904) rfl dX13_one_1 rfl ?_
  exact gx_iret K hK hsh hr hlk dX13_one_4 rfl
set_option maxRecDepth 100000 in
theorem ctx_x13_one_16 {cs : Cs} {z : Nat} {kd : Kd} (P : Ptr) (I : Mem) (a : Nat) (ha : kd a = (16, 0, 0)) : CtX cs z kd yX13_one cX13_one 1 (some .int) 0 0 [.ref a] (P, I) (fun r => (some (.int r), (P, I))) (x13_one I a) := by
  refine CtX.of RX13 (by decide) rfl (Nat.le_of_ble_eq_true rfl) ?_
  intro l D sz p e s m args below meth c hsh K hr hlk hK
  refine g_sub (ls' := [(0, .ref a)]) [0] rfl ?_
  unfold x13_one
  refine g_aloadn K 0 rfl rfl 1 dX13_one_0 rfl ?_
  refine gx_get K hK hsh 1 (v := .int (I a 1)) 4 in_X18 ha rfl (Nat.le_of_ble_eq_true rfl) rfl (by decide) (Or.inl q904) rfl dX13_one_1 rfl ?_
  exact gx_iret K hK hsh hr hlk dX13_one_4 rfl
set_option maxRecDepth 100000 in
theorem ctx_x13_one_17 {cs : Cs} {z : Nat} {kd : Kd} (P : Ptr) (I : Mem) (a : Nat) (ha : kd a = (17, 0, 0)) : CtX cs z kd yX13_one cX13_one 1 (some .int) 0 0 [.ref a] (P, I) (fun r => (some (.int r), (P, I))) (x13_one I a) := by
  refine CtX.of RX13 (by decide) rfl (Nat.le_of_ble_eq_true rfl) ?_
  intro l D sz p e s m args below meth c hsh K hr hlk hK
  refine g_sub (ls' := [(0, .ref a)]) [0] rfl ?_
  unfold x13_one
  refine g_aloadn K 0 rfl rfl 1 dX13_one_0 rfl ?_
  refine gx_get K hK hsh 1 (v := .int (I a 1)) 4 in_X19 ha rfl (Nat.le_of_ble_eq_true rfl) rfl (by decide) (Or.inl q904) rfl dX13_one_1 rfl ?_
  exact gx_iret K hK hsh hr hlk dX13_one_4 rfl
theorem wdi_x13_one : "GingerRents$Entry" ≠ "java/lang/invoke/MethodHandle" ∧ "GingerRents$Entry" ≠ "java/lang/invoke/VarHandle" ∧ (parseMethodDescriptor "()I").map (fun d => d.parameters.length) = some 0 := by decide +kernel
/-- GingerRents$Rain.comes(LGingerRents$Borough;)V -/
def x14_comes (I : Mem) (a : Nat) (x1 : Nat) : Option (Mem) :=
  (x13_one I a).bind fun r1 =>
  nm (up2 I x1 15 r1) fun I2 =>
  some I2
theorem wd_x14_comes : yX14_comes.cls = RX14 ∧ yX14_comes.cls ≠ "java/lang/invoke/MethodHandle" ∧ yX14_comes.cls ≠ "java/lang/invoke/VarHandle" ∧ (parseMethodDescriptor yX14_comes.desc).map (fun d => d.parameters.length) = some 1 := by decide +kernel
set_option maxRecDepth 100000 in
theorem ctx_x14_comes {cs : Cs} {z : Nat} {kd : Kd} (P : Ptr) (I : Mem) (a : Nat) (x1 : Nat) (ha : kd a = (12, 0, 0)) (hx1 : kd x1 = (1, 0, 0)) : CtX cs z kd yX14_comes cX14_comes 2 none 1 20 [.ref a, .ref x1] (P, I) (fun r => (none, (P, r))) (x14_comes I a x1) := by
  refine CtX.of RX14 (by decide) rfl (Nat.le_of_ble_eq_true rfl) ?_
  intro l D sz p e s m args below meth c hsh K hr hlk hK
  refine g_sub (ls' := [(0, .ref a), (1, .ref x1)]) [0, 1] rfl ?_
  unfold x14_comes
  refine g_aloadn K 1 rfl rfl 1 dX14_comes_0 rfl ?_
  refine g_aloadn K 0 rfl rfl 2 dX14_comes_1 rfl ?_
  refine gx_callI K hK hsh (owner := "GingerRents$Entry") 5 (ctx_x13_one_12 P I a  ha) (lw_U q1156 q1157 q1158 q1137 q179 q1138) rfl wdi_x13_one ha rfl (Nat.le_of_ble_eq_true rfl) rfl (by decide) rfl (Nat.le_of_ble_eq_true rfl) dX14_comes_2 rfl (fun r1 _ => ?_)
  refine gx_put K hK hsh 15 (ty := .int) 8 in_X1 tyX1 tyX1_ok nmX1 hx1 rfl rfl (Nat.le_of_ble_eq_true rfl) rfl (by decide) (Or.inr (nf_q328 hK.2)) rfl (by decide +kernel) rfl rfl (Nat.le_of_ble_eq_true rfl) dX14_comes_5 rfl (fun I2 _ => ?_)
  exact gx_vret K hK hsh hr hlk dX14_comes_8 rfl
/-- GingerRents$Frost.comes(LGingerRents$Borough;)V -/
def x15_comes (I : Mem) (a : Nat) (x1 : Nat) : Option (Mem) :=
  (x13_one I a).bind fun r1 =>
  nm (up2 I x1 16 r1) fun I2 =>
  some I2
theorem wd_x15_comes : yX15_comes.cls = RX15 ∧ yX15_comes.cls ≠ "java/lang/invoke/MethodHandle" ∧ yX15_comes.cls ≠ "java/lang/invoke/VarHandle" ∧ (parseMethodDescriptor yX15_comes.desc).map (fun d => d.parameters.length) = some 1 := by decide +kernel
set_option maxRecDepth 100000 in
theorem ctx_x15_comes {cs : Cs} {z : Nat} {kd : Kd} (P : Ptr) (I : Mem) (a : Nat) (x1 : Nat) (ha : kd a = (13, 0, 0)) (hx1 : kd x1 = (1, 0, 0)) : CtX cs z kd yX15_comes cX15_comes 2 none 1 20 [.ref a, .ref x1] (P, I) (fun r => (none, (P, r))) (x15_comes I a x1) := by
  refine CtX.of RX15 (by decide) rfl (Nat.le_of_ble_eq_true rfl) ?_
  intro l D sz p e s m args below meth c hsh K hr hlk hK
  refine g_sub (ls' := [(0, .ref a), (1, .ref x1)]) [0, 1] rfl ?_
  unfold x15_comes
  refine g_aloadn K 1 rfl rfl 1 dX15_comes_0 rfl ?_
  refine g_aloadn K 0 rfl rfl 2 dX15_comes_1 rfl ?_
  refine gx_callI K hK hsh (owner := "GingerRents$Entry") 5 (ctx_x13_one_13 P I a  ha) (lw_U q1143 q1144 q1145 q1137 q179 q1138) rfl wdi_x13_one ha rfl (Nat.le_of_ble_eq_true rfl) rfl (by decide) rfl (Nat.le_of_ble_eq_true rfl) dX15_comes_2 rfl (fun r1 _ => ?_)
  refine gx_put K hK hsh 16 (ty := .int) 8 in_X1 tyX1 tyX1_ok nmX1 hx1 rfl rfl (Nat.le_of_ble_eq_true rfl) rfl (by decide) (Or.inr (nf_q331 hK.2)) rfl (by decide +kernel) rfl rfl (Nat.le_of_ble_eq_true rfl) dX15_comes_5 rfl (fun I2 _ => ?_)
  exact gx_vret K hK hsh hr hlk dX15_comes_8 rfl
/-- GingerRents$Ice.comes(LGingerRents$Borough;)V -/
def x16_comes (I : Mem) (a : Nat) (x1 : Nat) : Option (Mem) :=
  (x13_one I a).bind fun r1 =>
  (ix 12 r1).bind fun i2 =>
  (x13_one I a).bind fun r4 =>
  (ix 12 r4).bind fun i5 =>
  nm (up2 I (x1 + 245 + 2 * i2) 4 (imax (nI 0) ((I (x1 + 245 + 2 * i5) 4) - (I a 2)))) fun I7 =>
  some I7
theorem wd_x16_comes : yX16_comes.cls = RX16 ∧ yX16_comes.cls ≠ "java/lang/invoke/MethodHandle" ∧ yX16_comes.cls ≠ "java/lang/invoke/VarHandle" ∧ (parseMethodDescriptor yX16_comes.desc).map (fun d => d.parameters.length) = some 1 := by decide +kernel
set_option maxRecDepth 100000 in
theorem ctx_x16_comes {cs : Cs} {z : Nat} {kd : Kd} (P : Ptr) (I : Mem) (a : Nat) (x1 : Nat) (ha : kd a = (14, 0, 0)) (hx1 : kd x1 = (1, 0, 0)) : CtX cs z kd yX16_comes cX16_comes 2 none 1 21 [.ref a, .ref x1] (P, I) (fun r => (none, (P, r))) (x16_comes I a x1) := by
  refine CtX.of RX16 (by decide) rfl (Nat.le_of_ble_eq_true rfl) ?_
  intro l D sz p e s m args below meth c hsh K hr hlk hK
  refine g_sub (ls' := [(0, .ref a), (1, .ref x1)]) [0, 1] rfl ?_
  unfold x16_comes
  refine g_aloadn K 1 rfl rfl 1 dX16_comes_0 rfl ?_
  refine gx_get K hK hsh 0 (v := .ref (x1 + 1)) 4 in_X1 hx1 rfl (Nat.le_of_ble_eq_true rfl) rfl (by decide) (Or.inr (nf_q296 hK.2)) rfl dX16_comes_1 rfl ?_
  refine g_aloadn K 0 rfl rfl 5 dX16_comes_4 rfl ?_
  refine gx_callI K hK hsh (owner := "GingerRents$Entry") 8 (ctx_x13_one_14 P I a  ha) (lw_U q1149 q1150 q1151 q1137 q179 q1138) rfl wdi_x13_one ha rfl (Nat.le_of_ble_eq_true rfl) rfl (by decide) rfl (Nat.le_of_ble_eq_true rfl) dX16_comes_5 rfl (fun r1 _ => ?_)
  refine gx_hal K hK hsh 9 (sh_1_house hsh hx1) dX16_comes_8 rfl (fun i2 hi3 => ?_)
  refine g_iconst K (nI 0) ic_0 10 dX16_comes_9 rfl ?_
  refine g_aloadn K 1 rfl rfl 11 dX16_comes_10 rfl ?_
  refine gx_get K hK hsh 0 (v := .ref (x1 + 1)) 14 in_X1 hx1 rfl (Nat.le_of_ble_eq_true rfl) rfl (by decide) (Or.inr (nf_q296 hK.2)) rfl dX16_comes_11 rfl ?_
  refine g_aloadn K 0 rfl rfl 15 dX16_comes_14 rfl ?_
  refine gx_callI K hK hsh (owner := "GingerRents$Entry") 18 (ctx_x13_one_14 P I a  ha) (lw_U q1149 q1150 q1151 q1137 q179 q1138) rfl wdi_x13_one ha rfl (Nat.le_of_ble_eq_true rfl) rfl (by decide) rfl (Nat.le_of_ble_eq_true rfl) dX16_comes_15 rfl (fun r4 _ => ?_)
  refine gx_hal K hK hsh 19 (sh_1_house hsh hx1) dX16_comes_18 rfl (fun i5 hi6 => ?_)
  refine gx_get K hK hsh 4 (v := .int (I (x1 + 245 + 2 * i5) 4)) 22 in_X3 (sh_23 hsh (sh_1_house hsh hx1) hi6) rfl (Nat.le_of_ble_eq_true rfl) rfl (by decide) (Or.inr (nf_q264 hK.2)) rfl dX16_comes_19 rfl ?_
  refine g_aloadn K 0 rfl rfl 23 dX16_comes_22 rfl ?_
  refine gx_get K hK hsh 2 (v := .int (I a 2)) 26 in_X16 ha rfl (Nat.le_of_ble_eq_true rfl) rfl (by decide) (Or.inl q933) rfl dX16_comes_23 rfl ?_
  refine g_isub K 27 dX16_comes_26 rfl ?_
  refine g_mmax K 30 q1152 q839 q159 q840 (by decide) (Nat.le_of_ble_eq_true rfl) dX16_comes_27 rfl ?_
  refine gx_put K hK hsh 4 (ty := .int) 33 in_X3 tyX3 tyX3_ok nmX3 (sh_23 hsh (sh_1_house hsh hx1) hi3) rfl rfl (Nat.le_of_ble_eq_true rfl) rfl (by decide) (Or.inr (nf_q264 hK.2)) rfl (by decide +kernel) rfl rfl (Nat.le_of_ble_eq_true rfl) dX16_comes_30 rfl (fun I7 _ => ?_)
  exact gx_vret K hK hsh hr hlk dX16_comes_33 rfl
/-- GingerRents$Bake.comes(LGingerRents$Borough;)V -/
def x17_comes (I : Mem) (a : Nat) (x1 : Nat) : Option (Mem) :=
  (x13_one I a).bind fun r1 =>
  (ix 12 r1).bind fun i2 =>
  (x3_bakes I (x1 + 245 + 2 * i2) (I a 2) (I a 3)).bind fun r4 =>
  some r4
theorem wd_x17_comes : yX17_comes.cls = RX17 ∧ yX17_comes.cls ≠ "java/lang/invoke/MethodHandle" ∧ yX17_comes.cls ≠ "java/lang/invoke/VarHandle" ∧ (parseMethodDescriptor yX17_comes.desc).map (fun d => d.parameters.length) = some 1 := by decide +kernel
set_option maxRecDepth 100000 in
theorem ctx_x17_comes {cs : Cs} {z : Nat} {kd : Kd} (P : Ptr) (I : Mem) (a : Nat) (x1 : Nat) (ha : kd a = (15, 0, 0)) (hx1 : kd x1 = (1, 0, 0)) : CtX cs z kd yX17_comes cX17_comes 2 none 2 43 [.ref a, .ref x1] (P, I) (fun r => (none, (P, r))) (x17_comes I a x1) := by
  refine CtX.of RX17 (by decide) rfl (Nat.le_of_ble_eq_true rfl) ?_
  intro l D sz p e s m args below meth c hsh K hr hlk hK
  refine g_sub (ls' := [(0, .ref a), (1, .ref x1)]) [0, 1] rfl ?_
  unfold x17_comes
  refine g_aloadn K 1 rfl rfl 1 dX17_comes_0 rfl ?_
  refine gx_get K hK hsh 0 (v := .ref (x1 + 1)) 4 in_X1 hx1 rfl (Nat.le_of_ble_eq_true rfl) rfl (by decide) (Or.inr (nf_q295 hK.2)) rfl dX17_comes_1 rfl ?_
  refine g_aloadn K 0 rfl rfl 5 dX17_comes_4 rfl ?_
  refine gx_callI K hK hsh (owner := "GingerRents$Entry") 8 (ctx_x13_one_15 P I a  ha) (lw_U q1133 q1134 q1136 q1137 q179 q1138) rfl wdi_x13_one ha rfl (Nat.le_of_ble_eq_true rfl) rfl (by decide) rfl (Nat.le_of_ble_eq_true rfl) dX17_comes_5 rfl (fun r1 _ => ?_)
  refine gx_hal K hK hsh 9 (sh_1_house hsh hx1) dX17_comes_8 rfl (fun i2 hi3 => ?_)
  refine g_aloadn K 0 rfl rfl 10 dX17_comes_9 rfl ?_
  refine gx_get K hK hsh 2 (v := .int (I a 2)) 13 in_X17 ha rfl (Nat.le_of_ble_eq_true rfl) rfl (by decide) (Or.inl q945) rfl dX17_comes_10 rfl ?_
  refine g_aloadn K 0 rfl rfl 14 dX17_comes_13 rfl ?_
  refine gx_get K hK hsh 3 (v := .int (I a 3)) 17 in_X17 ha rfl (Nat.le_of_ble_eq_true rfl) rfl (by decide) (Or.inl q946) rfl dX17_comes_14 rfl ?_
  refine gx_call K hK hsh 20 (ctx_x3_bakes P I (x1 + 245 + 2 * i2) (I a 2) (I a 3) (sh_23 hsh (sh_1_house hsh hx1) hi3)) (lw_V q1139 q1092 q1093 q157 q1094) wd_x3_bakes (sh_23 hsh (sh_1_house hsh hx1) hi3) rfl (Nat.le_of_ble_eq_true rfl) rfl (by decide) rfl (Nat.le_of_ble_eq_true rfl) dX17_comes_17 rfl (fun r4 hr5 => ?_)
  exact gx_vret K hK hsh hr hlk dX17_comes_20 rfl
/-- GingerRents$Wedding.comes(LGingerRents$Borough;)V -/
def x18_comes (kd : Kd) (P : Ptr) (I : Mem) (a : Nat) (x1 : Nat) : Option (Mem) :=
  (x13_one I a).bind fun r1 =>
  (x1_canWed I x1 r1).bind fun r2 =>
  if (bI r2) = 0 then
  some I
  else
  (x13_one I a).bind fun r4 =>
  (x1_weds kd P I x1 r4).bind fun r5 =>
  some r5
theorem wd_x18_comes : yX18_comes.cls = RX18 ∧ yX18_comes.cls ≠ "java/lang/invoke/MethodHandle" ∧ yX18_comes.cls ≠ "java/lang/invoke/VarHandle" ∧ (parseMethodDescriptor yX18_comes.desc).map (fun d => d.parameters.length) = some 1 := by decide +kernel
set_option maxRecDepth 100000 in
theorem ctx_x18_comes {cs : Cs} {z : Nat} {kd : Kd} (P : Ptr) (I : Mem) (a : Nat) (x1 : Nat) (ha : kd a = (16, 0, 0)) (hx1 : kd x1 = (1, 0, 0)) : CtX cs z kd yX18_comes cX18_comes 2 none 5 111 [.ref a, .ref x1] (P, I) (fun r => (none, (P, r))) (x18_comes kd P I a x1) := by
  refine CtX.of RX18 (by decide) rfl (Nat.le_of_ble_eq_true rfl) ?_
  intro l D sz p e s m args below meth c hsh K hr hlk hK
  refine g_sub (ls' := [(0, .ref a), (1, .ref x1)]) [0, 1] rfl ?_
  unfold x18_comes
  refine g_aloadn K 1 rfl rfl 1 dX18_comes_0 rfl ?_
  refine g_aloadn K 0 rfl rfl 2 dX18_comes_1 rfl ?_
  refine gx_callI K hK hsh (owner := "GingerRents$Entry") 5 (ctx_x13_one_16 P I a  ha) (lw_U q1170 q1171 q1172 q1137 q179 q1138) rfl wdi_x13_one ha rfl (Nat.le_of_ble_eq_true rfl) rfl (by decide) rfl (Nat.le_of_ble_eq_true rfl) dX18_comes_2 rfl (fun r1 _ => ?_)
  refine gx_call K hK hsh 8 (ctx_x1_canWed P I x1 r1 hx1) (lw_V q1173 q1033 q1034 q152 q1035) wd_x1_canWed hx1 rfl (Nat.le_of_ble_eq_true rfl) rfl (by decide) rfl (Nat.le_of_ble_eq_true rfl) dX18_comes_5 rfl (fun r2 hr3 => ?_)
  refine g_if_eq K 11 19 dX18_comes_8 rfl (by decide) (fun _ => ?_) (fun _ => ?_)
  · exact gx_vret K hK hsh hr hlk dX18_comes_19 rfl
  · refine g_aloadn K 1 rfl rfl 12 dX18_comes_11 rfl ?_
    refine g_aloadn K 0 rfl rfl 13 dX18_comes_12 rfl ?_
    refine gx_callI K hK hsh (owner := "GingerRents$Entry") 16 (ctx_x13_one_16 P I a  ha) (lw_U q1170 q1171 q1172 q1137 q179 q1138) rfl wdi_x13_one ha rfl (Nat.le_of_ble_eq_true rfl) rfl (by decide) rfl (Nat.le_of_ble_eq_true rfl) dX18_comes_13 rfl (fun r4 _ => ?_)
    refine gx_call K hK hsh 19 (ctx_x1_weds P I x1 r4 hx1) (lw_V q1174 q1050 q1051 q152 q1052) wd_x1_weds hx1 rfl (Nat.le_of_ble_eq_true rfl) rfl (by decide) rfl (Nat.le_of_ble_eq_true rfl) dX18_comes_16 rfl (fun r5 hr6 => ?_)
    exact gx_vret K hK hsh hr hlk dX18_comes_19 rfl
/-- GingerRents$Razing.comes(LGingerRents$Borough;)V -/
def x19_comes (kd : Kd) (P : Ptr) (I : Mem) (a : Nat) (x1 : Nat) : Option (Mem) :=
  (x13_one I a).bind fun r1 =>
  (ix 12 r1).bind fun i2 =>
  (x3_stands I (x1 + 245 + 2 * i2)).bind fun r4 =>
  if (bI r4) = 0 then
  some I
  else
  (x13_one I a).bind fun r6 =>
  (x1_razes kd P I x1 r6).bind fun r7 =>
  some r7
theorem wd_x19_comes : yX19_comes.cls = RX19 ∧ yX19_comes.cls ≠ "java/lang/invoke/MethodHandle" ∧ yX19_comes.cls ≠ "java/lang/invoke/VarHandle" ∧ (parseMethodDescriptor yX19_comes.desc).map (fun d => d.parameters.length) = some 1 := by decide +kernel
set_option maxRecDepth 100000 in
theorem ctx_x19_comes {cs : Cs} {z : Nat} {kd : Kd} (P : Ptr) (I : Mem) (a : Nat) (x1 : Nat) (ha : kd a = (17, 0, 0)) (hx1 : kd x1 = (1, 0, 0)) : CtX cs z kd yX19_comes cX19_comes 2 none 5 111 [.ref a, .ref x1] (P, I) (fun r => (none, (P, r))) (x19_comes kd P I a x1) := by
  refine CtX.of RX19 (by decide) rfl (Nat.le_of_ble_eq_true rfl) ?_
  intro l D sz p e s m args below meth c hsh K hr hlk hK
  refine g_sub (ls' := [(0, .ref a), (1, .ref x1)]) [0, 1] rfl ?_
  unfold x19_comes
  refine g_aloadn K 1 rfl rfl 1 dX19_comes_0 rfl ?_
  refine gx_get K hK hsh 0 (v := .ref (x1 + 1)) 4 in_X1 hx1 rfl (Nat.le_of_ble_eq_true rfl) rfl (by decide) (Or.inr (nf_q297 hK.2)) rfl dX19_comes_1 rfl ?_
  refine g_aloadn K 0 rfl rfl 5 dX19_comes_4 rfl ?_
  refine gx_callI K hK hsh (owner := "GingerRents$Entry") 8 (ctx_x13_one_17 P I a  ha) (lw_U q1162 q1163 q1164 q1137 q179 q1138) rfl wdi_x13_one ha rfl (Nat.le_of_ble_eq_true rfl) rfl (by decide) rfl (Nat.le_of_ble_eq_true rfl) dX19_comes_5 rfl (fun r1 _ => ?_)
  refine gx_hal K hK hsh 9 (sh_1_house hsh hx1) dX19_comes_8 rfl (fun i2 hi3 => ?_)
  refine gx_call K hK hsh 12 (ctx_x3_stands P I (x1 + 245 + 2 * i2) (sh_23 hsh (sh_1_house hsh hx1) hi3)) (lw_V q1165 q1037 q1038 q157 q1039) wd_x3_stands (sh_23 hsh (sh_1_house hsh hx1) hi3) rfl (Nat.le_of_ble_eq_true rfl) rfl (by decide) rfl (Nat.le_of_ble_eq_true rfl) dX19_comes_9 rfl (fun r4 hr5 => ?_)
  refine g_if_eq K 15 23 dX19_comes_12 rfl (by decide) (fun _ => ?_) (fun _ => ?_)
  · exact gx_vret K hK hsh hr hlk dX19_comes_23 rfl
  · refine g_aloadn K 1 rfl rfl 16 dX19_comes_15 rfl ?_
    refine g_aloadn K 0 rfl rfl 17 dX19_comes_16 rfl ?_
    refine gx_callI K hK hsh (owner := "GingerRents$Entry") 20 (ctx_x13_one_17 P I a  ha) (lw_U q1162 q1163 q1164 q1137 q179 q1138) rfl wdi_x13_one ha rfl (Nat.le_of_ble_eq_true rfl) rfl (by decide) rfl (Nat.le_of_ble_eq_true rfl) dX19_comes_17 rfl (fun r6 _ => ?_)
    refine gx_call K hK hsh 23 (ctx_x1_razes P I x1 r6 hx1) (lw_V q1166 q1084 q1085 q152 q1086) wd_x1_razes hx1 rfl (Nat.le_of_ble_eq_true rfl) rfl (by decide) rfl (Nat.le_of_ble_eq_true rfl) dX19_comes_20 rfl (fun r7 hr8 => ?_)
    exact gx_vret K hK hsh hr hlk dX19_comes_23 rfl
section GE
variable {p : Program} {l : Launch} {e : Env} {fr lo : Nat} {s : State} {m : MethodId} {args : Array Value} {below : List Frame} {meth : Method} {c : Code} {nL : Nat} {c0 k0 : Nat × Nat} {D : va_G} {cs : Cs} {z sz : Nat} {kd : Kd} {O : Type} {pc : Nat} {ls : List (Nat × Value)} {st : List Value} {P : Ptr} {I : Mem} {q : O → En} {o : Option O} {cc : ByteArray} {own : String}
theorem gx_isOf (K : CallFix p m c cc nL s args lw_all own) (hK : xK D cs z s) (hsh : Shp z kd) {e0 index : Nat} {x1 : Int32} {kk : Bool → Option O} (n : Nat) (hE : isEn kd e0) (hlink : Cond.methodLink own index ⟨"GingerRents$Entry", "isOf", "(I)Z"⟩ ∈ lw_all) (hroom : 1 ≤ fr ∧ 30 ≤ lo) (hcat : (st.map fun v => v.category).sum ≤ 8) (hd : decode cc pc = .ok (.invokevirtual index, 3)) (hn : pc + 3 = n) (g : ∀ r, x13_isOf I e0 x1 = some r → Gx p l e fr lo s m args below meth c nL c0 k0 D cs z sz kd n ls (.int (bI r) :: st) (P, I) q (kk r)) : Gx p l e fr lo s m args below meth c nL c0 k0 D cs z sz kd pc ls (.int x1 :: .ref e0 :: st) (P, I) q ((x13_isOf I e0 x1).bind kk) := by
  rcases hE with h | h | h | h | h | h
  · exact gx_callI K hK hsh (x := ⟨"GingerRents$Entry", "isOf", "(I)Z"⟩) (owner := "GingerRents$Entry") (vals := [.int x1]) n (ctx_x13_isOf_12 P I e0 x1 h) (lw_U hlink q1119 q1123 q1118 q179 q1126) rfl wdi_x13_isOf h rfl (Nat.le_of_ble_eq_true rfl) rfl (by omega) rfl hcat hd hn g
  · exact gx_callI K hK hsh (x := ⟨"GingerRents$Entry", "isOf", "(I)Z"⟩) (owner := "GingerRents$Entry") (vals := [.int x1]) n (ctx_x13_isOf_13 P I e0 x1 h) (lw_U hlink q1119 q1121 q1118 q179 q1126) rfl wdi_x13_isOf h rfl (Nat.le_of_ble_eq_true rfl) rfl (by omega) rfl hcat hd hn g
  · exact gx_callI K hK hsh (x := ⟨"GingerRents$Entry", "isOf", "(I)Z"⟩) (owner := "GingerRents$Entry") (vals := [.int x1]) n (ctx_x13_isOf_14 P I e0 x1 h) (lw_U hlink q1119 q1122 q1118 q179 q1126) rfl wdi_x13_isOf h rfl (Nat.le_of_ble_eq_true rfl) rfl (by omega) rfl hcat hd hn g
  · exact gx_callI K hK hsh (x := ⟨"GingerRents$Entry", "isOf", "(I)Z"⟩) (owner := "GingerRents$Entry") (vals := [.int x1]) n (ctx_x13_isOf_15 P I e0 x1 h) (lw_U hlink q1119 q1120 q1118 q179 q1126) rfl wdi_x13_isOf h rfl (Nat.le_of_ble_eq_true rfl) rfl (by omega) rfl hcat hd hn g
  · exact gx_callI K hK hsh (x := ⟨"GingerRents$Entry", "isOf", "(I)Z"⟩) (owner := "GingerRents$Entry") (vals := [.int x1]) n (ctx_x13_isOf_16 P I e0 x1 h) (lw_U hlink q1119 q1125 q1118 q179 q1126) rfl wdi_x13_isOf h rfl (Nat.le_of_ble_eq_true rfl) rfl (by omega) rfl hcat hd hn g
  · exact gx_callI K hK hsh (x := ⟨"GingerRents$Entry", "isOf", "(I)Z"⟩) (owner := "GingerRents$Entry") (vals := [.int x1]) n (ctx_x13_isOf_17 P I e0 x1 h) (lw_U hlink q1119 q1124 q1118 q179 q1126) rfl wdi_x13_isOf h rfl (Nat.le_of_ble_eq_true rfl) rfl (by omega) rfl hcat hd hn g
end GE
/-- what comes, whichever it is -/
def en_comes (kd : Kd) (P : Ptr) (I : Mem) (e0 b : Nat) : Option Mem := if kd e0 = (12, 0, 0) then x14_comes I e0 b else if kd e0 = (13, 0, 0) then x15_comes I e0 b else if kd e0 = (14, 0, 0) then x16_comes I e0 b else if kd e0 = (15, 0, 0) then x17_comes I e0 b else if kd e0 = (16, 0, 0) then x18_comes kd P I e0 b else if kd e0 = (17, 0, 0) then x19_comes kd P I e0 b else none
theorem wd_comes : "GingerRents$Entry" ≠ "java/lang/invoke/MethodHandle" ∧ "GingerRents$Entry" ≠ "java/lang/invoke/VarHandle" ∧ (parseMethodDescriptor "(LGingerRents$Borough;)V").map (fun d => d.parameters.length) = some 1 := by decide +kernel
section GE2
variable {p : Program} {l : Launch} {e : Env} {fr lo : Nat} {s : State} {m : MethodId} {args : Array Value} {below : List Frame} {meth : Method} {c : Code} {nL : Nat} {c0 k0 : Nat × Nat} {D : va_G} {cs : Cs} {z sz : Nat} {kd : Kd} {O : Type} {pc : Nat} {ls : List (Nat × Value)} {st : List Value} {P : Ptr} {I : Mem} {q : O → En} {o : Option O} {cc : ByteArray} {own : String}
theorem gx_comes (K : CallFix p m c cc nL s args lw_all own) (hK : xK D cs z s) (hsh : Shp z kd) {e0 b index : Nat} {kk : Mem → Option O} (n : Nat) (hE : isEn kd e0) (hb : kd b = (1, 0, 0)) (hlink : Cond.methodLink own index ⟨"GingerRents$Entry", "comes", "(LGingerRents$Borough;)V"⟩ ∈ lw_all) (hroom : 6 ≤ fr ∧ 132 ≤ lo) (hcat : (st.map fun v => v.category).sum ≤ 8) (hd : decode cc pc = .ok (.invokevirtual index, 3)) (hn : pc + 3 = n) (g : ∀ r, en_comes kd P I e0 b = some r → Gx p l e fr lo s m args below meth c nL c0 k0 D cs z sz kd n ls st (P, r) q (kk r)) : Gx p l e fr lo s m args below meth c nL c0 k0 D cs z sz kd pc ls (.ref b :: .ref e0 :: st) (P, I) q ((en_comes kd P I e0 b).bind kk) := by
  rcases hE with h | h | h | h | h | h
  · rw [show en_comes kd P I e0 b = x14_comes I e0 b by unfold en_comes; rw [if_pos h]] at g ⊢
    exact gx_callU K hK hsh (x := ⟨"GingerRents$Entry", "comes", "(LGingerRents$Borough;)V"⟩) (y := yX14_comes) (vals := [.ref b]) n (ctx_x14_comes P I e0 b h hb) (lw_U hlink q1129 q1153 q1154 q180 q1155) (nd_q1128 hK.2) wd_comes h rfl (Nat.le_of_ble_eq_true rfl) rfl (by omega) rfl hcat hd hn g
  · rw [show en_comes kd P I e0 b = x15_comes I e0 b by unfold en_comes; rw [if_neg (by rw [h]; decide), if_pos h]] at g ⊢
    exact gx_callU K hK hsh (x := ⟨"GingerRents$Entry", "comes", "(LGingerRents$Borough;)V"⟩) (y := yX15_comes) (vals := [.ref b]) n (ctx_x15_comes P I e0 b h hb) (lw_U hlink q1129 q1140 q1141 q181 q1142) (nd_q1128 hK.2) wd_comes h rfl (Nat.le_of_ble_eq_true rfl) rfl (by omega) rfl hcat hd hn g
  · rw [show en_comes kd P I e0 b = x16_comes I e0 b by unfold en_comes; rw [if_neg (by rw [h]; decide), if_neg (by rw [h]; decide), if_pos h]] at g ⊢
    exact gx_callU K hK hsh (x := ⟨"GingerRents$Entry", "comes", "(LGingerRents$Borough;)V"⟩) (y := yX16_comes) (vals := [.ref b]) n (ctx_x16_comes P I e0 b h hb) (lw_U hlink q1129 q1146 q1147 q182 q1148) (nd_q1128 hK.2) wd_comes h rfl (Nat.le_of_ble_eq_true rfl) rfl (by omega) rfl hcat hd hn g
  · rw [show en_comes kd P I e0 b = x17_comes I e0 b by unfold en_comes; rw [if_neg (by rw [h]; decide), if_neg (by rw [h]; decide), if_neg (by rw [h]; decide), if_pos h]] at g ⊢
    exact gx_callU K hK hsh (x := ⟨"GingerRents$Entry", "comes", "(LGingerRents$Borough;)V"⟩) (y := yX17_comes) (vals := [.ref b]) n (ctx_x17_comes P I e0 b h hb) (lw_U hlink q1129 q1130 q1131 q183 q1132) (nd_q1128 hK.2) wd_comes h rfl (Nat.le_of_ble_eq_true rfl) rfl (by omega) rfl hcat hd hn g
  · rw [show en_comes kd P I e0 b = x18_comes kd P I e0 b by unfold en_comes; rw [if_neg (by rw [h]; decide), if_neg (by rw [h]; decide), if_neg (by rw [h]; decide), if_neg (by rw [h]; decide), if_pos h]] at g ⊢
    exact gx_callU K hK hsh (x := ⟨"GingerRents$Entry", "comes", "(LGingerRents$Borough;)V"⟩) (y := yX18_comes) (vals := [.ref b]) n (ctx_x18_comes P I e0 b h hb) (lw_U hlink q1129 q1167 q1168 q184 q1169) (nd_q1128 hK.2) wd_comes h rfl (Nat.le_of_ble_eq_true rfl) rfl (by omega) rfl hcat hd hn g
  · rw [show en_comes kd P I e0 b = x19_comes kd P I e0 b by unfold en_comes; rw [if_neg (by rw [h]; decide), if_neg (by rw [h]; decide), if_neg (by rw [h]; decide), if_neg (by rw [h]; decide), if_neg (by rw [h]; decide), if_pos h]] at g ⊢
    exact gx_callU K hK hsh (x := ⟨"GingerRents$Entry", "comes", "(LGingerRents$Borough;)V"⟩) (y := yX19_comes) (vals := [.ref b]) n (ctx_x19_comes P I e0 b h hb) (lw_U hlink q1129 q1159 q1160 q185 q1161) (nd_q1128 hK.2) wd_comes h rfl (Nat.le_of_ble_eq_true rfl) rfl (by omega) rfl hcat hd hn g
end GE2
/-- GingerRents$Borough.passes()I -/
def x1_passes (kd : Kd) (P : Ptr) (I : Mem) (a : Nat) : Option (Int32 × Ptr × Mem) :=
  jn (fun (j1 : Mem) =>
  jn (fun (j4 : Mem) =>
  (x1_standing j4 a).bind fun r7 =>
  jn (fun (j9 : Ptr × Mem) =>
  jn (fun (j12 : Ptr × Mem) =>
  jn (fun (j15 : Ptr × Mem) =>
  jn (fun (j18 : Mem) =>
  jn (fun (j21 : Mem) =>
  nm (up2 j21 a 19 ((j21 a 19) + (nI 1))) fun I24 =>
  (x1_standing I24 a).bind fun r25 =>
  (j4_bitCount (r7 &&& (r25 ^^^ (-1 : Int32)))).bind fun r27 =>
  some (r27, j15.1, I24)) (fun k22 =>
  lp (fun again29 (j28 : Int32 × Mem) =>
  if (j28.2 a 14) ≤ j28.1 then
  k22 j28.2
  else
  (ix 12 j28.1).bind fun i31 =>
  (ix 12 j28.1).bind fun i33 =>
  (x3_stands j28.2 (a + 245 + 2 * i33)).bind fun r35 =>
  jn (fun (j37 : Int32) =>
  nm (up2 j28.2 (a + 245 + 2 * i31) 6 ((j28.2 (a + 245 + 2 * i31) 6) + j37)) fun I40 =>
  again29 ((j28.1 + (nI 1)), I40)) (fun k38 =>
  if (bI r35) = 0 then
  k38 (nI 0)
  else
  (ix 12 j28.1).bind fun i41 =>
  if (nI 9999) ≤ (j28.2 (a + 245 + 2 * i41) 6) then
  k38 (nI 0)
  else
  k38 (nI 1))) fuel ((nI 0), j18))) (fun k19 =>
  lp (fun again44 (j43 : Int32 × Mem) =>
  if (j43.2 a 14) ≤ j43.1 then
  k19 j43.2
  else
  (x1_leaves kd j15.1 j43.2 a j43.1).bind fun r46 =>
  again44 ((j43.1 + (nI 1)), r46)) fuel ((nI 0), j15.2))) (fun k16 =>
  lp (fun again49 (j48 : Int32 × Ptr × Mem) =>
  if (j48.2.2 a 14) ≤ j48.1 then
  k16 (j48.2.1, j48.2.2)
  else
  (x1_isMelting kd j48.2.1 j48.2.2 a j48.1).bind fun r51 =>
  again49 ((j48.1 + (nI 1)), r51.1, r51.2)) fuel ((nI 0), j12.1, j12.2))) (fun k13 =>
  lp (fun again54 (j53 : Int32 × Ptr × Mem) =>
  if (j53.2.2 a 14) ≤ j53.1 then
  k13 (j53.2.1, j53.2.2)
  else
  (x1_isGnawed kd j53.2.1 j53.2.2 a j53.1).bind fun r56 =>
  again54 ((j53.1 + (nI 1)), r56.1, r56.2)) fuel ((nI 0), j9.1, j9.2))) (fun k10 =>
  lp (fun again59 (j58 : Int32 × Ptr × Mem) =>
  if (j58.2.2 a 14) ≤ j58.1 then
  k10 (j58.2.1, j58.2.2)
  else
  (ix 12 j58.1).bind fun i61 =>
  (x3_stands j58.2.2 (a + 245 + 2 * i61)).bind fun r63 =>
  if (bI r63) = 0 then
  again59 ((j58.1 + (nI 1)), j58.2.1, j58.2.2)
  else
  (ix 12 j58.1).bind fun i65 =>
  if (j58.2.2 (a + 245 + 2 * i65) 5) ≤ 0 then
  again59 ((j58.1 + (nI 1)), j58.2.1, j58.2.2)
  else
  (x1_pays kd j58.2.1 j58.2.2 a j58.1).bind fun r67 =>
  again59 ((j58.1 + (nI 1)), r67.1, r67.2)) fuel ((nI 0), P, j4))) (fun k5 =>
  lp (fun again70 (j69 : Int32 × Mem) =>
  (pk kd (P a 12) (18, 0, 0)).bind fun b72 =>
  (j2_size j69.2 b72).bind fun r74 =>
  if r74 ≤ j69.1 then
  k5 j69.2
  else
  (pk kd (P a 12) (18, 0, 0)).bind fun b76 =>
  (j2_get kd P j69.2 b76 j69.1).bind fun r78 =>
  (ckE kd r78).bind fun _ =>
  (x13_isOf j69.2 r78 (j69.2 a 19)).bind fun r81 =>
  if (bI r81) = 0 then
  again70 ((j69.1 + (nI 1)), j69.2)
  else
  (pk kd (P a 12) (18, 0, 0)).bind fun b82 =>
  (j2_get kd P j69.2 b82 j69.1).bind fun r84 =>
  (ckE kd r84).bind fun _ =>
  (en_comes kd P j69.2 r84 a).bind fun r87 =>
  again70 ((j69.1 + (nI 1)), r87)) fuel ((nI 0), j1))) (fun k2 =>
  lp (fun again89 (j88 : Int32 × Mem) =>
  (pk kd (P a 11) (18, 0, 0)).bind fun b91 =>
  (j2_size j88.2 b91).bind fun r93 =>
  if r93 ≤ j88.1 then
  k2 j88.2
  else
  (pk kd (P a 11) (18, 0, 0)).bind fun b95 =>
  (j2_get kd P j88.2 b95 j88.1).bind fun r97 =>
  (ckE kd r97).bind fun _ =>
  (x13_isOf j88.2 r97 (j88.2 a 19)).bind fun r100 =>
  if (bI r100) = 0 then
  again89 ((j88.1 + (nI 1)), j88.2)
  else
  (pk kd (P a 11) (18, 0, 0)).bind fun b101 =>
  (j2_get kd P j88.2 b101 j88.1).bind fun r103 =>
  (ckE kd r103).bind fun _ =>
  (en_comes kd P j88.2 r103 a).bind fun r106 =>
  again89 ((j88.1 + (nI 1)), r106)) fuel ((nI 0), I))
theorem wd_x1_passes : yX1_passes.cls = RX1 ∧ yX1_passes.cls ≠ "java/lang/invoke/MethodHandle" ∧ yX1_passes.cls ≠ "java/lang/invoke/VarHandle" ∧ (parseMethodDescriptor yX1_passes.desc).map (fun d => d.parameters.length) = some 0 := by decide +kernel
set_option maxRecDepth 100000 in
theorem ctx_x1_passes {cs : Cs} {z : Nat} {kd : Kd} (P : Ptr) (I : Mem) (a : Nat) (ha : kd a = (1, 0, 0)) : CtX cs z kd yX1_passes cX1_passes 3 (some .int) 426 10643 [.ref a] (P, I) (fun r => (some (.int r.1), (r.2.1, r.2.2))) (x1_passes kd P I a) := by
  refine CtX.of RX1 (by decide) rfl (Nat.le_of_ble_eq_true rfl) ?_
  intro l D sz p e s m args below meth c hsh K hr hlk hK
  refine g_sub (ls' := [(0, .ref a)]) [0] rfl ?_
  unfold x1_passes
  refine g_iconst K (nI 0) ic_0 1 dX1_passes_0 rfl ?_
  refine g_istoren K [(0, .ref a), (1, .int (nI 0))] [1, 0] rfl (by decide) rfl 2 dX1_passes_1 rfl ?_
  refine g_jn (head := 55) (L := fun j1 => [(0, .ref a)]) (sf := fun j1 => []) (mf := fun j1 => (P, j1)) (fun j1 => ?_) (fun k2 h3 => ?_)
  · try dsimp only
    refine g_iconst K (nI 0) ic_0 56 dX1_passes_55 rfl ?_
    refine g_istoren K [(0, .ref a), (1, .int (nI 0))] [1, 0] rfl (by decide) rfl 57 dX1_passes_56 rfl ?_
    refine g_jn (head := 110) (L := fun j4 => [(0, .ref a)]) (sf := fun j4 => []) (mf := fun j4 => (P, j4)) (fun j4 => ?_) (fun k5 h6 => ?_)
    · try dsimp only
      refine g_aloadn K 0 rfl rfl 111 dX1_passes_110 rfl ?_
      refine gx_call K hK hsh 114 (ctx_x1_standing P j4 a ha) (lw_V q1070 q1071 q1072 q152 q1073) wd_x1_standing ha rfl (Nat.le_of_ble_eq_true rfl) rfl (by decide) rfl (Nat.le_of_ble_eq_true rfl) dX1_passes_111 rfl (fun r7 hr8 => ?_)
      refine g_istoren K [(0, .ref a), (1, .int r7)] [1, 0] rfl (by decide) rfl 115 dX1_passes_114 rfl ?_
      refine g_iconst K (nI 0) ic_0 116 dX1_passes_115 rfl ?_
      refine g_istoren K [(0, .ref a), (1, .int r7), (2, .int (nI 0))] [1, 2, 0] rfl (by decide) rfl 117 dX1_passes_116 rfl ?_
      refine g_jn (head := 160) (L := fun j9 => [(0, .ref a), (1, .int r7)]) (sf := fun j9 => []) (mf := fun j9 => (j9.1, j9.2)) (fun j9 => ?_) (fun k10 h11 => ?_)
      · try dsimp only
        refine g_iconst K (nI 0) ic_0 161 dX1_passes_160 rfl ?_
        refine g_istoren K [(0, .ref a), (1, .int r7), (2, .int (nI 0))] [1, 2, 0] rfl (by decide) rfl 162 dX1_passes_161 rfl ?_
        refine g_jn (head := 181) (L := fun j12 => [(0, .ref a), (1, .int r7)]) (sf := fun j12 => []) (mf := fun j12 => (j12.1, j12.2)) (fun j12 => ?_) (fun k13 h14 => ?_)
        · try dsimp only
          refine g_iconst K (nI 0) ic_0 182 dX1_passes_181 rfl ?_
          refine g_istoren K [(0, .ref a), (1, .int r7), (2, .int (nI 0))] [1, 2, 0] rfl (by decide) rfl 183 dX1_passes_182 rfl ?_
          refine g_jn (head := 202) (L := fun j15 => [(0, .ref a), (1, .int r7)]) (sf := fun j15 => []) (mf := fun j15 => (j15.1, j15.2)) (fun j15 => ?_) (fun k16 h17 => ?_)
          · try dsimp only
            refine g_iconst K (nI 0) ic_0 203 dX1_passes_202 rfl ?_
            refine g_istoren K [(0, .ref a), (1, .int r7), (2, .int (nI 0))] [1, 2, 0] rfl (by decide) rfl 204 dX1_passes_203 rfl ?_
            refine g_jn (head := 223) (L := fun j18 => [(0, .ref a), (1, .int r7)]) (sf := fun j18 => []) (mf := fun j18 => (j15.1, j18)) (fun j18 => ?_) (fun k19 h20 => ?_)
            · try dsimp only
              refine g_iconst K (nI 0) ic_0 224 dX1_passes_223 rfl ?_
              refine g_istoren K [(0, .ref a), (1, .int r7), (2, .int (nI 0))] [1, 2, 0] rfl (by decide) rfl 225 dX1_passes_224 rfl ?_
              refine g_jn (head := 285) (L := fun j21 => [(0, .ref a), (1, .int r7)]) (sf := fun j21 => []) (mf := fun j21 => (j15.1, j21)) (fun j21 => ?_) (fun k22 h23 => ?_)
              · try dsimp only
                refine g_aloadn K 0 rfl rfl 286 dX1_passes_285 rfl ?_
                refine g_dup K rfl 287 dX1_passes_286 rfl ?_
                refine gx_get K hK hsh 19 (v := .int (j21 a 19)) 290 in_X1 ha rfl (Nat.le_of_ble_eq_true rfl) rfl (by decide) (Or.inl q338) rfl dX1_passes_287 rfl ?_
                refine g_iconst K (nI 1) ic_1 291 dX1_passes_290 rfl ?_
                refine g_iadd K 292 dX1_passes_291 rfl ?_
                refine gx_put K hK hsh 19 (ty := .int) 295 in_X1 tyX1 tyX1_ok nmX1 ha rfl rfl (Nat.le_of_ble_eq_true rfl) rfl (by decide) (Or.inl q338) rfl (by decide +kernel) rfl rfl (Nat.le_of_ble_eq_true rfl) dX1_passes_292 rfl (fun I24 _ => ?_)
                refine g_iloadn K 1 rfl rfl 296 dX1_passes_295 rfl ?_
                refine g_aloadn K 0 rfl rfl 297 dX1_passes_296 rfl ?_
                refine gx_call K hK hsh 300 (ctx_x1_standing j15.1 I24 a ha) (lw_V q1070 q1071 q1072 q152 q1073) wd_x1_standing ha rfl (Nat.le_of_ble_eq_true rfl) rfl (by decide) rfl (Nat.le_of_ble_eq_true rfl) dX1_passes_297 rfl (fun r25 hr26 => ?_)
                refine g_iconst K (-1 : Int32) ic_m1 301 dX1_passes_300 rfl ?_
                refine g_ixor K 302 dX1_passes_301 rfl ?_
                refine g_iand K 303 dX1_passes_302 rfl ?_
                refine g_callS K 306 (cts_j4_bitCount (r7 &&& (r25 ^^^ (-1 : Int32)))) (lw_S q1248 q1249 q160 q1250) wds_j4_bitCount (by decide) rfl (Nat.le_of_ble_eq_true rfl) dX1_passes_303 rfl (fun r27 _ => ?_)
                exact gx_iret K hK hsh hr hlk dX1_passes_306 rfl
              · refine g_lp (head := 225) (L := fun j28 => [(0, .ref a), (1, .int r7), (2, .int j28.1)]) (sf := fun j28 => []) (mf := fun j28 => (j15.1, j28.2)) (fun again29 h30 j28 => ?_) fuel ((nI 0), j18)
                try dsimp only
                refine g_iloadn K 2 rfl rfl 226 dX1_passes_225 rfl ?_
                refine g_aloadn K 0 rfl rfl 227 dX1_passes_226 rfl ?_
                refine gx_get K hK hsh 14 (v := .int (j28.2 a 14)) 230 in_X1 ha rfl (Nat.le_of_ble_eq_true rfl) rfl (by decide) (Or.inl q325) rfl dX1_passes_227 rfl ?_
                refine g_icmp_ge K 233 285 dX1_passes_230 rfl (by decide) (fun _ => ?_) (fun _ => ?_)
                · refine g_sub (ls' := [(0, .ref a), (1, .int r7)]) [0, 1] rfl ?_
                  exact h23 j28.2
                · refine g_aloadn K 0 rfl rfl 234 dX1_passes_233 rfl ?_
                  refine gx_get K hK hsh 0 (v := .ref (a + 1)) 237 in_X1 ha rfl (Nat.le_of_ble_eq_true rfl) rfl (by decide) (Or.inl q294) rfl dX1_passes_234 rfl ?_
                  refine g_iloadn K 2 rfl rfl 238 dX1_passes_237 rfl ?_
                  refine gx_hal K hK hsh 239 (sh_1_house hsh ha) dX1_passes_238 rfl (fun i31 hi32 => ?_)
                  refine g_dup K rfl 240 dX1_passes_239 rfl ?_
                  refine gx_get K hK hsh 6 (v := .int (j28.2 (a + 245 + 2 * i31) 6)) 243 in_X3 (sh_23 hsh (sh_1_house hsh ha) hi32) rfl (Nat.le_of_ble_eq_true rfl) rfl (by decide) (Or.inr (nf_q272 hK.2)) rfl dX1_passes_240 rfl ?_
                  refine g_aloadn K 0 rfl rfl 244 dX1_passes_243 rfl ?_
                  refine gx_get K hK hsh 0 (v := .ref (a + 1)) 247 in_X1 ha rfl (Nat.le_of_ble_eq_true rfl) rfl (by decide) (Or.inl q294) rfl dX1_passes_244 rfl ?_
                  refine g_iloadn K 2 rfl rfl 248 dX1_passes_247 rfl ?_
                  refine gx_hal K hK hsh 249 (sh_1_house hsh ha) dX1_passes_248 rfl (fun i33 hi34 => ?_)
                  refine gx_call K hK hsh 252 (ctx_x3_stands j15.1 j28.2 (a + 245 + 2 * i33) (sh_23 hsh (sh_1_house hsh ha) hi34)) (lw_V q1036 q1037 q1038 q157 q1039) wd_x3_stands (sh_23 hsh (sh_1_house hsh ha) hi34) rfl (Nat.le_of_ble_eq_true rfl) rfl (by decide) rfl (Nat.le_of_ble_eq_true rfl) dX1_passes_249 rfl (fun r35 hr36 => ?_)
                  refine g_jn (head := 275) (L := fun j37 => [(0, .ref a), (1, .int r7), (2, .int j28.1)]) (sf := fun j37 => [.int j37, .int (j28.2 (a + 245 + 2 * i31) 6), .ref (a + 245 + 2 * i31)]) (mf := fun j37 => (j15.1, j28.2)) (fun j37 => ?_) (fun k38 h39 => ?_)
                  · try dsimp only
                    refine g_iadd K 276 dX1_passes_275 rfl ?_
                    refine gx_put K hK hsh 6 (ty := .int) 279 in_X3 tyX3 tyX3_ok nmX3 (sh_23 hsh (sh_1_house hsh ha) hi32) rfl rfl (Nat.le_of_ble_eq_true rfl) rfl (by decide) (Or.inr (nf_q272 hK.2)) rfl (by decide +kernel) rfl rfl (Nat.le_of_ble_eq_true rfl) dX1_passes_276 rfl (fun I40 _ => ?_)
                    refine g_iinc K (j28.1 + (nI 1)) 2 [(0, .ref a), (1, .int r7), (2, .int (j28.1 + (nI 1)))] [1, 2, 0] rfl (by rw [ic_1]) (by decide) rfl 282 dX1_passes_279 rfl ?_
                    refine g_goto K 225 dX1_passes_282 (by decide) ?_
                    exact h30 ((j28.1 + (nI 1)), I40)
                  · refine g_if_eq K 255 274 dX1_passes_252 rfl (by decide) (fun _ => ?_) (fun _ => ?_)
                    · refine g_iconst K (nI 0) ic_0 275 dX1_passes_274 rfl ?_
                      exact h39 (nI 0)
                    · refine g_aloadn K 0 rfl rfl 256 dX1_passes_255 rfl ?_
                      refine gx_get K hK hsh 0 (v := .ref (a + 1)) 259 in_X1 ha rfl (Nat.le_of_ble_eq_true rfl) rfl (by decide) (Or.inl q294) rfl dX1_passes_256 rfl ?_
                      refine g_iloadn K 2 rfl rfl 260 dX1_passes_259 rfl ?_
                      refine gx_hal K hK hsh 261 (sh_1_house hsh ha) dX1_passes_260 rfl (fun i41 hi42 => ?_)
                      refine gx_get K hK hsh 6 (v := .int (j28.2 (a + 245 + 2 * i41) 6)) 264 in_X3 (sh_23 hsh (sh_1_house hsh ha) hi42) rfl (Nat.le_of_ble_eq_true rfl) rfl (by decide) (Or.inr (nf_q272 hK.2)) rfl dX1_passes_261 rfl ?_
                      refine g_sipush K (nI 9999) sp_9999 267 dX1_passes_264 rfl ?_
                      refine g_icmp_ge K 270 274 dX1_passes_267 rfl (by decide) (fun _ => ?_) (fun _ => ?_)
                      · refine g_iconst K (nI 0) ic_0 275 dX1_passes_274 rfl ?_
                        exact h39 (nI 0)
                      · refine g_iconst K (nI 1) ic_1 271 dX1_passes_270 rfl ?_
                        refine g_goto K 275 dX1_passes_271 (by decide) ?_
                        exact h39 (nI 1)
            · refine g_lp (head := 204) (L := fun j43 => [(0, .ref a), (1, .int r7), (2, .int j43.1)]) (sf := fun j43 => []) (mf := fun j43 => (j15.1, j43.2)) (fun again44 h45 j43 => ?_) fuel ((nI 0), j15.2)
              try dsimp only
              refine g_iloadn K 2 rfl rfl 205 dX1_passes_204 rfl ?_
              refine g_aloadn K 0 rfl rfl 206 dX1_passes_205 rfl ?_
              refine gx_get K hK hsh 14 (v := .int (j43.2 a 14)) 209 in_X1 ha rfl (Nat.le_of_ble_eq_true rfl) rfl (by decide) (Or.inl q325) rfl dX1_passes_206 rfl ?_
              refine g_icmp_ge K 212 223 dX1_passes_209 rfl (by decide) (fun _ => ?_) (fun _ => ?_)
              · refine g_sub (ls' := [(0, .ref a), (1, .int r7)]) [0, 1] rfl ?_
                exact h20 j43.2
              · refine g_aloadn K 0 rfl rfl 213 dX1_passes_212 rfl ?_
                refine g_iloadn K 2 rfl rfl 214 dX1_passes_213 rfl ?_
                refine gx_call K hK hsh 217 (ctx_x1_leaves j15.1 j43.2 a j43.1 ha) (lw_V q1066 q1067 q1068 q152 q1069) wd_x1_leaves ha rfl (Nat.le_of_ble_eq_true rfl) rfl (by decide) rfl (Nat.le_of_ble_eq_true rfl) dX1_passes_214 rfl (fun r46 hr47 => ?_)
                refine g_iinc K (j43.1 + (nI 1)) 2 [(0, .ref a), (1, .int r7), (2, .int (j43.1 + (nI 1)))] [1, 2, 0] rfl (by rw [ic_1]) (by decide) rfl 220 dX1_passes_217 rfl ?_
                refine g_goto K 204 dX1_passes_220 (by decide) ?_
                exact h45 ((j43.1 + (nI 1)), r46)
          · refine g_lp (head := 183) (L := fun j48 => [(0, .ref a), (1, .int r7), (2, .int j48.1)]) (sf := fun j48 => []) (mf := fun j48 => (j48.2.1, j48.2.2)) (fun again49 h50 j48 => ?_) fuel ((nI 0), j12.1, j12.2)
            try dsimp only
            refine g_iloadn K 2 rfl rfl 184 dX1_passes_183 rfl ?_
            refine g_aloadn K 0 rfl rfl 185 dX1_passes_184 rfl ?_
            refine gx_get K hK hsh 14 (v := .int (j48.2.2 a 14)) 188 in_X1 ha rfl (Nat.le_of_ble_eq_true rfl) rfl (by decide) (Or.inl q325) rfl dX1_passes_185 rfl ?_
            refine g_icmp_ge K 191 202 dX1_passes_188 rfl (by decide) (fun _ => ?_) (fun _ => ?_)
            · refine g_sub (ls' := [(0, .ref a), (1, .int r7)]) [0, 1] rfl ?_
              exact h17 (j48.2.1, j48.2.2)
            · refine g_aloadn K 0 rfl rfl 192 dX1_passes_191 rfl ?_
              refine g_iloadn K 2 rfl rfl 193 dX1_passes_192 rfl ?_
              refine gx_call K hK hsh 196 (ctx_x1_isMelting j48.2.1 j48.2.2 a j48.1 ha) (lw_V q1239 q1241 qs39 q152 q1242) wd_x1_isMelting ha rfl (Nat.le_of_ble_eq_true rfl) rfl (by decide) rfl (Nat.le_of_ble_eq_true rfl) dX1_passes_193 rfl (fun r51 hr52 => ?_)
              refine g_iinc K (j48.1 + (nI 1)) 2 [(0, .ref a), (1, .int r7), (2, .int (j48.1 + (nI 1)))] [1, 2, 0] rfl (by rw [ic_1]) (by decide) rfl 199 dX1_passes_196 rfl ?_
              refine g_goto K 183 dX1_passes_199 (by decide) ?_
              exact h50 ((j48.1 + (nI 1)), r51.1, r51.2)
        · refine g_lp (head := 162) (L := fun j53 => [(0, .ref a), (1, .int r7), (2, .int j53.1)]) (sf := fun j53 => []) (mf := fun j53 => (j53.2.1, j53.2.2)) (fun again54 h55 j53 => ?_) fuel ((nI 0), j9.1, j9.2)
          try dsimp only
          refine g_iloadn K 2 rfl rfl 163 dX1_passes_162 rfl ?_
          refine g_aloadn K 0 rfl rfl 164 dX1_passes_163 rfl ?_
          refine gx_get K hK hsh 14 (v := .int (j53.2.2 a 14)) 167 in_X1 ha rfl (Nat.le_of_ble_eq_true rfl) rfl (by decide) (Or.inl q325) rfl dX1_passes_164 rfl ?_
          refine g_icmp_ge K 170 181 dX1_passes_167 rfl (by decide) (fun _ => ?_) (fun _ => ?_)
          · refine g_sub (ls' := [(0, .ref a), (1, .int r7)]) [0, 1] rfl ?_
            exact h14 (j53.2.1, j53.2.2)
          · refine g_aloadn K 0 rfl rfl 171 dX1_passes_170 rfl ?_
            refine g_iloadn K 2 rfl rfl 172 dX1_passes_171 rfl ?_
            refine gx_call K hK hsh 175 (ctx_x1_isGnawed j53.2.1 j53.2.2 a j53.1 ha) (lw_V q1225 q1227 qs38 q152 q1228) wd_x1_isGnawed ha rfl (Nat.le_of_ble_eq_true rfl) rfl (by decide) rfl (Nat.le_of_ble_eq_true rfl) dX1_passes_172 rfl (fun r56 hr57 => ?_)
            refine g_iinc K (j53.1 + (nI 1)) 2 [(0, .ref a), (1, .int r7), (2, .int (j53.1 + (nI 1)))] [1, 2, 0] rfl (by rw [ic_1]) (by decide) rfl 178 dX1_passes_175 rfl ?_
            refine g_goto K 162 dX1_passes_178 (by decide) ?_
            exact h55 ((j53.1 + (nI 1)), r56.1, r56.2)
      · refine g_lp (head := 117) (L := fun j58 => [(0, .ref a), (1, .int r7), (2, .int j58.1)]) (sf := fun j58 => []) (mf := fun j58 => (j58.2.1, j58.2.2)) (fun again59 h60 j58 => ?_) fuel ((nI 0), P, j4)
        try dsimp only
        refine g_iloadn K 2 rfl rfl 118 dX1_passes_117 rfl ?_
        refine g_aloadn K 0 rfl rfl 119 dX1_passes_118 rfl ?_
        refine gx_get K hK hsh 14 (v := .int (j58.2.2 a 14)) 122 in_X1 ha rfl (Nat.le_of_ble_eq_true rfl) rfl (by decide) (Or.inl q325) rfl dX1_passes_119 rfl ?_
        refine g_icmp_ge K 125 160 dX1_passes_122 rfl (by decide) (fun _ => ?_) (fun _ => ?_)
        · refine g_sub (ls' := [(0, .ref a), (1, .int r7)]) [0, 1] rfl ?_
          exact h11 (j58.2.1, j58.2.2)
        · refine g_aloadn K 0 rfl rfl 126 dX1_passes_125 rfl ?_
          refine gx_get K hK hsh 0 (v := .ref (a + 1)) 129 in_X1 ha rfl (Nat.le_of_ble_eq_true rfl) rfl (by decide) (Or.inl q294) rfl dX1_passes_126 rfl ?_
          refine g_iloadn K 2 rfl rfl 130 dX1_passes_129 rfl ?_
          refine gx_hal K hK hsh 131 (sh_1_house hsh ha) dX1_passes_130 rfl (fun i61 hi62 => ?_)
          refine gx_call K hK hsh 134 (ctx_x3_stands j58.2.1 j58.2.2 (a + 245 + 2 * i61) (sh_23 hsh (sh_1_house hsh ha) hi62)) (lw_V q1036 q1037 q1038 q157 q1039) wd_x3_stands (sh_23 hsh (sh_1_house hsh ha) hi62) rfl (Nat.le_of_ble_eq_true rfl) rfl (by decide) rfl (Nat.le_of_ble_eq_true rfl) dX1_passes_131 rfl (fun r63 hr64 => ?_)
          refine g_if_eq K 137 154 dX1_passes_134 rfl (by decide) (fun _ => ?_) (fun _ => ?_)
          · refine g_iinc K (j58.1 + (nI 1)) 2 [(0, .ref a), (1, .int r7), (2, .int (j58.1 + (nI 1)))] [1, 2, 0] rfl (by rw [ic_1]) (by decide) rfl 157 dX1_passes_154 rfl ?_
            refine g_goto K 117 dX1_passes_157 (by decide) ?_
            exact h60 ((j58.1 + (nI 1)), j58.2.1, j58.2.2)
          · refine g_aloadn K 0 rfl rfl 138 dX1_passes_137 rfl ?_
            refine gx_get K hK hsh 0 (v := .ref (a + 1)) 141 in_X1 ha rfl (Nat.le_of_ble_eq_true rfl) rfl (by decide) (Or.inl q294) rfl dX1_passes_138 rfl ?_
            refine g_iloadn K 2 rfl rfl 142 dX1_passes_141 rfl ?_
            refine gx_hal K hK hsh 143 (sh_1_house hsh ha) dX1_passes_142 rfl (fun i65 hi66 => ?_)
            refine gx_get K hK hsh 5 (v := .int (j58.2.2 (a + 245 + 2 * i65) 5)) 146 in_X3 (sh_23 hsh (sh_1_house hsh ha) hi66) rfl (Nat.le_of_ble_eq_true rfl) rfl (by decide) (Or.inr (nf_q269 hK.2)) rfl dX1_passes_143 rfl ?_
            refine g_if_le K 149 154 dX1_passes_146 rfl (by decide) (fun _ => ?_) (fun _ => ?_)
            · refine g_iinc K (j58.1 + (nI 1)) 2 [(0, .ref a), (1, .int r7), (2, .int (j58.1 + (nI 1)))] [1, 2, 0] rfl (by rw [ic_1]) (by decide) rfl 157 dX1_passes_154 rfl ?_
              refine g_goto K 117 dX1_passes_157 (by decide) ?_
              exact h60 ((j58.1 + (nI 1)), j58.2.1, j58.2.2)
            · refine g_aloadn K 0 rfl rfl 150 dX1_passes_149 rfl ?_
              refine g_iloadn K 2 rfl rfl 151 dX1_passes_150 rfl ?_
              refine gx_call K hK hsh 154 (ctx_x1_pays j58.2.1 j58.2.2 a j58.1 ha) (lw_V q1175 q1177 qs35 q152 q1178) wd_x1_pays ha rfl (Nat.le_of_ble_eq_true rfl) rfl (by decide) rfl (Nat.le_of_ble_eq_true rfl) dX1_passes_151 rfl (fun r67 hr68 => ?_)
              refine g_iinc K (j58.1 + (nI 1)) 2 [(0, .ref a), (1, .int r7), (2, .int (j58.1 + (nI 1)))] [1, 2, 0] rfl (by rw [ic_1]) (by decide) rfl 157 dX1_passes_154 rfl ?_
              refine g_goto K 117 dX1_passes_157 (by decide) ?_
              exact h60 ((j58.1 + (nI 1)), r67.1, r67.2)
    · refine g_lp (head := 57) (L := fun j69 => [(0, .ref a), (1, .int j69.1)]) (sf := fun j69 => []) (mf := fun j69 => (P, j69.2)) (fun again70 h71 j69 => ?_) fuel ((nI 0), j1)
      try dsimp only
      refine g_iloadn K 1 rfl rfl 58 dX1_passes_57 rfl ?_
      refine g_aloadn K 0 rfl rfl 59 dX1_passes_58 rfl ?_
      refine gx_getp K hK hsh 12 (18, 0, 0) 62 in_X1 ha rfl (Nat.le_of_ble_eq_true rfl) rfl (by decide) (Or.inl q321) rfl dX1_passes_59 rfl (fun b72 hb73 => ?_)
      refine gx_call K hK hsh 65 (ctx_j2_size P j69.2 b72 hb73) (lw_V q1103 q712 q713 q156 q714) wd_j2_size hb73 rfl (Nat.le_of_ble_eq_true rfl) rfl (by decide) rfl (Nat.le_of_ble_eq_true rfl) dX1_passes_62 rfl (fun r74 hr75 => ?_)
      refine g_icmp_ge K 68 110 dX1_passes_65 rfl (by decide) (fun _ => ?_) (fun _ => ?_)
      · refine g_sub (ls' := [(0, .ref a)]) [0] rfl ?_
        exact h6 j69.2
      · refine g_aloadn K 0 rfl rfl 69 dX1_passes_68 rfl ?_
        refine gx_getp K hK hsh 12 (18, 0, 0) 72 in_X1 ha rfl (Nat.le_of_ble_eq_true rfl) rfl (by decide) (Or.inl q321) rfl dX1_passes_69 rfl (fun b76 hb77 => ?_)
        refine g_iloadn K 1 rfl rfl 73 dX1_passes_72 rfl ?_
        refine gx_call K hK hsh 76 (ctx_j2_get P j69.2 b76 j69.1 hb77) (lw_V q1104 q1105 q1106 q156 q1107) wd_j2_get hb77 rfl (Nat.le_of_ble_eq_true rfl) rfl (by decide) rfl (Nat.le_of_ble_eq_true rfl) dX1_passes_73 rfl (fun r78 hr79 => ?_)
        refine gx_ckE (fun he80 => ?_)
        refine gx_castE K hK hsh 79 q1116 he80 dX1_passes_76 rfl ?_
        refine g_aloadn K 0 rfl rfl 80 dX1_passes_79 rfl ?_
        refine gx_get K hK hsh 19 (v := .int (j69.2 a 19)) 83 in_X1 ha rfl (Nat.le_of_ble_eq_true rfl) rfl (by decide) (Or.inl q338) rfl dX1_passes_80 rfl ?_
        refine gx_isOf K hK hsh 86 he80 q1117 (by decide) (Nat.le_of_ble_eq_true rfl) dX1_passes_83 rfl (fun r81 _ => ?_)
        refine g_if_eq K 89 104 dX1_passes_86 rfl (by decide) (fun _ => ?_) (fun _ => ?_)
        · refine g_iinc K (j69.1 + (nI 1)) 1 [(0, .ref a), (1, .int (j69.1 + (nI 1)))] [1, 0] rfl (by rw [ic_1]) (by decide) rfl 107 dX1_passes_104 rfl ?_
          refine g_goto K 57 dX1_passes_107 (by decide) ?_
          exact h71 ((j69.1 + (nI 1)), j69.2)
        · refine g_aloadn K 0 rfl rfl 90 dX1_passes_89 rfl ?_
          refine gx_getp K hK hsh 12 (18, 0, 0) 93 in_X1 ha rfl (Nat.le_of_ble_eq_true rfl) rfl (by decide) (Or.inl q321) rfl dX1_passes_90 rfl (fun b82 hb83 => ?_)
          refine g_iloadn K 1 rfl rfl 94 dX1_passes_93 rfl ?_
          refine gx_call K hK hsh 97 (ctx_j2_get P j69.2 b82 j69.1 hb83) (lw_V q1104 q1105 q1106 q156 q1107) wd_j2_get hb83 rfl (Nat.le_of_ble_eq_true rfl) rfl (by decide) rfl (Nat.le_of_ble_eq_true rfl) dX1_passes_94 rfl (fun r84 hr85 => ?_)
          refine gx_ckE (fun he86 => ?_)
          refine gx_castE K hK hsh 100 q1116 he86 dX1_passes_97 rfl ?_
          refine g_aloadn K 0 rfl rfl 101 dX1_passes_100 rfl ?_
          refine gx_comes K hK hsh 104 he86 ha q1127 (by decide) (Nat.le_of_ble_eq_true rfl) dX1_passes_101 rfl (fun r87 _ => ?_)
          refine g_iinc K (j69.1 + (nI 1)) 1 [(0, .ref a), (1, .int (j69.1 + (nI 1)))] [1, 0] rfl (by rw [ic_1]) (by decide) rfl 107 dX1_passes_104 rfl ?_
          refine g_goto K 57 dX1_passes_107 (by decide) ?_
          exact h71 ((j69.1 + (nI 1)), r87)
  · refine g_lp (head := 2) (L := fun j88 => [(0, .ref a), (1, .int j88.1)]) (sf := fun j88 => []) (mf := fun j88 => (P, j88.2)) (fun again89 h90 j88 => ?_) fuel ((nI 0), I)
    try dsimp only
    refine g_iloadn K 1 rfl rfl 3 dX1_passes_2 rfl ?_
    refine g_aloadn K 0 rfl rfl 4 dX1_passes_3 rfl ?_
    refine gx_getp K hK hsh 11 (18, 0, 0) 7 in_X1 ha rfl (Nat.le_of_ble_eq_true rfl) rfl (by decide) (Or.inl q319) rfl dX1_passes_4 rfl (fun b91 hb92 => ?_)
    refine gx_call K hK hsh 10 (ctx_j2_size P j88.2 b91 hb92) (lw_V q1103 q712 q713 q156 q714) wd_j2_size hb92 rfl (Nat.le_of_ble_eq_true rfl) rfl (by decide) rfl (Nat.le_of_ble_eq_true rfl) dX1_passes_7 rfl (fun r93 hr94 => ?_)
    refine g_icmp_ge K 13 55 dX1_passes_10 rfl (by decide) (fun _ => ?_) (fun _ => ?_)
    · refine g_sub (ls' := [(0, .ref a)]) [0] rfl ?_
      exact h3 j88.2
    · refine g_aloadn K 0 rfl rfl 14 dX1_passes_13 rfl ?_
      refine gx_getp K hK hsh 11 (18, 0, 0) 17 in_X1 ha rfl (Nat.le_of_ble_eq_true rfl) rfl (by decide) (Or.inl q319) rfl dX1_passes_14 rfl (fun b95 hb96 => ?_)
      refine g_iloadn K 1 rfl rfl 18 dX1_passes_17 rfl ?_
      refine gx_call K hK hsh 21 (ctx_j2_get P j88.2 b95 j88.1 hb96) (lw_V q1104 q1105 q1106 q156 q1107) wd_j2_get hb96 rfl (Nat.le_of_ble_eq_true rfl) rfl (by decide) rfl (Nat.le_of_ble_eq_true rfl) dX1_passes_18 rfl (fun r97 hr98 => ?_)
      refine gx_ckE (fun he99 => ?_)
      refine gx_castE K hK hsh 24 q1116 he99 dX1_passes_21 rfl ?_
      refine g_aloadn K 0 rfl rfl 25 dX1_passes_24 rfl ?_
      refine gx_get K hK hsh 19 (v := .int (j88.2 a 19)) 28 in_X1 ha rfl (Nat.le_of_ble_eq_true rfl) rfl (by decide) (Or.inl q338) rfl dX1_passes_25 rfl ?_
      refine gx_isOf K hK hsh 31 he99 q1117 (by decide) (Nat.le_of_ble_eq_true rfl) dX1_passes_28 rfl (fun r100 _ => ?_)
      refine g_if_eq K 34 49 dX1_passes_31 rfl (by decide) (fun _ => ?_) (fun _ => ?_)
      · refine g_iinc K (j88.1 + (nI 1)) 1 [(0, .ref a), (1, .int (j88.1 + (nI 1)))] [1, 0] rfl (by rw [ic_1]) (by decide) rfl 52 dX1_passes_49 rfl ?_
        refine g_goto K 2 dX1_passes_52 (by decide) ?_
        exact h90 ((j88.1 + (nI 1)), j88.2)
      · refine g_aloadn K 0 rfl rfl 35 dX1_passes_34 rfl ?_
        refine gx_getp K hK hsh 11 (18, 0, 0) 38 in_X1 ha rfl (Nat.le_of_ble_eq_true rfl) rfl (by decide) (Or.inl q319) rfl dX1_passes_35 rfl (fun b101 hb102 => ?_)
        refine g_iloadn K 1 rfl rfl 39 dX1_passes_38 rfl ?_
        refine gx_call K hK hsh 42 (ctx_j2_get P j88.2 b101 j88.1 hb102) (lw_V q1104 q1105 q1106 q156 q1107) wd_j2_get hb102 rfl (Nat.le_of_ble_eq_true rfl) rfl (by decide) rfl (Nat.le_of_ble_eq_true rfl) dX1_passes_39 rfl (fun r103 hr104 => ?_)
        refine gx_ckE (fun he105 => ?_)
        refine gx_castE K hK hsh 45 q1116 he105 dX1_passes_42 rfl ?_
        refine g_aloadn K 0 rfl rfl 46 dX1_passes_45 rfl ?_
        refine gx_comes K hK hsh 49 he105 ha q1127 (by decide) (Nat.le_of_ble_eq_true rfl) dX1_passes_46 rfl (fun r106 _ => ?_)
        refine g_iinc K (j88.1 + (nI 1)) 1 [(0, .ref a), (1, .int (j88.1 + (nI 1)))] [1, 0] rfl (by rw [ic_1]) (by decide) rfl 52 dX1_passes_49 rfl ?_
        refine g_goto K 2 dX1_passes_52 (by decide) ?_
        exact h90 ((j88.1 + (nI 1)), r106)
/-- GingerRents.quarters(I)I -/
def x0_quarters (kd : Kd) (P : Ptr) (I : Mem) (z : Nat) (x1 : Int32) : Option (Int32 × Ptr × Mem) :=
  (x0_isIn x1 (nI 1) (nI 60)).bind fun r1 =>
  if (bI r1) = 0 then
  some ((-1 : Int32), P, I)
  else
  if ((I (z + 2) 19) + x1) ≤ (nI 9999) then
  lp (fun again3 (j2 : Int32 × Int32 × Ptr × Mem) =>
  if x1 ≤ j2.2.1 then
  some (j2.1, j2.2.2.1, j2.2.2.2)
  else
  (x0_remembers kd j2.2.2.1 j2.2.2.2 z).bind fun r5 =>
  (x1_passes kd r5.1 r5.2 (z + 2)).bind fun r7 =>
  again3 ((j2.1 + r7.1), (j2.2.1 + (nI 1)), r7.2.1, r7.2.2)) fuel ((nI 0), (nI 0), P, I)
  else
  some ((-1 : Int32), P, I)
theorem wd_x0_quarters : yX0_quarters.cls = RX0 ∧ yX0_quarters.cls ≠ "java/lang/invoke/MethodHandle" ∧ yX0_quarters.cls ≠ "java/lang/invoke/VarHandle" ∧ (parseMethodDescriptor yX0_quarters.desc).map (fun d => d.parameters.length) = some 1 := by decide +kernel
set_option maxRecDepth 100000 in
theorem ctx_x0_quarters {cs : Cs} {z : Nat} {kd : Kd} (P : Ptr) (I : Mem) (x1 : Int32) (hz : kd z = (0, 0, 0)) : CtX cs z kd yX0_quarters cX0_quarters 4 (some .int) 427 10665 [.ref z, .int x1] (P, I) (fun r => (some (.int r.1), (r.2.1, r.2.2))) (x0_quarters kd P I z x1) := by
  refine CtX.of RX0 (by decide) rfl (Nat.le_of_ble_eq_true rfl) ?_
  intro l D sz p e s m args below meth c hsh K hr hlk hK
  refine g_sub (ls' := [(0, .ref z), (1, .int x1)]) [0, 1] rfl ?_
  unfold x0_quarters
  refine g_iloadn K 1 rfl rfl 1 dX0_quarters_0 rfl ?_
  refine g_iconst K (nI 1) ic_1 2 dX0_quarters_1 rfl ?_
  refine g_bipush K (nI 60) bp_60 4 dX0_quarters_2 rfl ?_
  refine g_callS K 7 (cts_x0_isIn x1 (nI 1) (nI 60)) (lw_S q478 q479 q151 q480) wds_x0_isIn (by decide) rfl (Nat.le_of_ble_eq_true rfl) dX0_quarters_4 rfl (fun r1 _ => ?_)
  refine g_if_eq K 10 25 dX0_quarters_7 rfl (by decide) (fun _ => ?_) (fun _ => ?_)
  · refine g_iconst K (-1 : Int32) ic_m1 26 dX0_quarters_25 rfl ?_
    exact gx_iret K hK hsh hr hlk dX0_quarters_26 rfl
  · refine g_aloadn K 0 rfl rfl 11 dX0_quarters_10 rfl ?_
    refine gx_get K hK hsh 4 (v := .ref (z + 2)) 14 in_X0 hz rfl (Nat.le_of_ble_eq_true rfl) rfl (by decide) (Or.inl q411) rfl dX0_quarters_11 rfl ?_
    refine gx_get K hK hsh 19 (v := .int (I (z + 2) 19)) 17 in_X1 (sh_0_borough hsh hz) rfl (Nat.le_of_ble_eq_true rfl) rfl (by decide) (Or.inr (nf_q339 hK.2)) rfl dX0_quarters_14 rfl ?_
    refine g_iloadn K 1 rfl rfl 18 dX0_quarters_17 rfl ?_
    refine g_iadd K 19 dX0_quarters_18 rfl ?_
    refine g_sipush K (nI 9999) sp_9999 22 dX0_quarters_19 rfl ?_
    refine g_icmp_le K 25 27 dX0_quarters_22 rfl (by decide) (fun _ => ?_) (fun _ => ?_)
    · refine g_iconst K (nI 0) ic_0 28 dX0_quarters_27 rfl ?_
      refine g_istoren K [(0, .ref z), (1, .int x1), (2, .int (nI 0))] [1, 2, 0] rfl (by decide) rfl 29 dX0_quarters_28 rfl ?_
      refine g_iconst K (nI 0) ic_0 30 dX0_quarters_29 rfl ?_
      refine g_istoren K [(0, .ref z), (1, .int x1), (2, .int (nI 0)), (3, .int (nI 0))] [1, 2, 3, 0] rfl (by decide) rfl 31 dX0_quarters_30 rfl ?_
      refine g_lp (head := 31) (L := fun j2 => [(0, .ref z), (1, .int x1), (2, .int j2.1), (3, .int j2.2.1)]) (sf := fun j2 => []) (mf := fun j2 => (j2.2.2.1, j2.2.2.2)) (fun again3 h4 j2 => ?_) fuel ((nI 0), (nI 0), P, I)
      try dsimp only
      refine g_iloadn K 3 rfl rfl 32 dX0_quarters_31 rfl ?_
      refine g_iloadn K 1 rfl rfl 33 dX0_quarters_32 rfl ?_
      refine g_icmp_ge K 36 56 dX0_quarters_33 rfl (by decide) (fun _ => ?_) (fun _ => ?_)
      · refine g_iloadn K 2 rfl rfl 57 dX0_quarters_56 rfl ?_
        exact gx_iret K hK hsh hr hlk dX0_quarters_57 rfl
      · refine g_aloadn K 0 rfl rfl 37 dX0_quarters_36 rfl ?_
        refine gx_call K hK hsh 40 (ctx_x0_remembers j2.2.2.1 j2.2.2.2 hz) (lw_V q1045 q1047 qs33 q151 q1048) wd_x0_remembers hz rfl (Nat.le_of_ble_eq_true rfl) rfl (by decide) rfl (Nat.le_of_ble_eq_true rfl) dX0_quarters_37 rfl (fun r5 hr6 => ?_)
        refine g_iloadn K 2 rfl rfl 41 dX0_quarters_40 rfl ?_
        refine g_aloadn K 0 rfl rfl 42 dX0_quarters_41 rfl ?_
        refine gx_get K hK hsh 4 (v := .ref (z + 2)) 45 in_X0 hz rfl (Nat.le_of_ble_eq_true rfl) rfl (by decide) (Or.inl q411) rfl dX0_quarters_42 rfl ?_
        refine gx_call K hK hsh 48 (ctx_x1_passes r5.1 r5.2 (z + 2) (sh_0_borough hsh hz)) (lw_V q1099 q1100 q1101 q152 q1102) wd_x1_passes (sh_0_borough hsh hz) rfl (Nat.le_of_ble_eq_true rfl) rfl (by decide) rfl (Nat.le_of_ble_eq_true rfl) dX0_quarters_45 rfl (fun r7 hr8 => ?_)
        refine g_iadd K 49 dX0_quarters_48 rfl ?_
        refine g_istoren K [(0, .ref z), (1, .int x1), (2, .int (j2.1 + r7.1)), (3, .int j2.2.1)] [1, 2, 0, 3] rfl (by decide) rfl 50 dX0_quarters_49 rfl ?_
        refine g_iinc K (j2.2.1 + (nI 1)) 3 [(0, .ref z), (1, .int x1), (2, .int (j2.1 + r7.1)), (3, .int (j2.2.1 + (nI 1)))] [1, 2, 3, 0] rfl (by rw [ic_1]) (by decide) rfl 53 dX0_quarters_50 rfl ?_
        refine g_goto K 31 dX0_quarters_53 (by decide) ?_
        exact h4 ((j2.1 + r7.1), (j2.2.1 + (nI 1)), r7.2.1, r7.2.2)
    · refine g_iconst K (-1 : Int32) ic_m1 26 dX0_quarters_25 rfl ?_
      exact gx_iret K hK hsh hr hlk dX0_quarters_26 rfl
/-- GingerRents.goes(II)I -/
def x0_goes (kd : Kd) (P : Ptr) (I : Mem) (z : Nat) (x1 : Int32) (x2 : Int32) : Option (Int32 × Ptr × Mem) :=
  (x0_isIn x1 (nI 1) (nI 60)).bind fun r1 =>
  if (bI r1) = 0 then
  some ((-1 : Int32), P, I)
  else
  (x0_isIn x2 (nI 0) (nI 3)).bind fun r2 =>
  if (bI r2) = 0 then
  some ((-1 : Int32), P, I)
  else
  (x1_thinks kd P I (z + 540) (z + 2)).bind fun r3 =>
  jn (fun (j5 : Ptr × Mem) =>
  if (nI 2) ≤ x2 then
  lp (fun again9 (j8 : Int32 × Int32) =>
  if (j5.2 (z + 540) 14) ≤ j8.2 then
  some (j8.1, j5.1, j5.2)
  else
  jn (fun (j11 : Int32) =>
  again9 ((j8.1 + j11), (j8.2 + (nI 1)))) (fun k12 =>
  if x2 = (nI 2) then
  (ix 12 j8.2).bind fun i16 =>
  k12 (j5.2 (z + 785 + 2 * i16) 4)
  else
  (ix 12 j8.2).bind fun i14 =>
  k12 (j5.2 (z + 785 + 2 * i14) 5))) fuel ((nI 0), (nI 0))
  else
  if x2 = 0 then
  some ((j5.2 (z + 540) 17), j5.1, j5.2)
  else
  (x1_standing j5.2 (z + 540)).bind fun r18 =>
  (j4_bitCount r18).bind fun r20 =>
  some (r20, j5.1, j5.2)) (fun k6 =>
  lp (fun again22 (j21 : Int32 × Ptr × Mem) =>
  if x1 ≤ j21.1 then
  k6 (j21.2.1, j21.2.2)
  else
  (x1_passes kd j21.2.1 j21.2.2 (z + 540)).bind fun r24 =>
  again22 ((j21.1 + (nI 1)), r24.2.1, r24.2.2)) fuel ((nI 0), r3.1, r3.2))
theorem wd_x0_goes : yX0_goes.cls = RX0 ∧ yX0_goes.cls ≠ "java/lang/invoke/MethodHandle" ∧ yX0_goes.cls ≠ "java/lang/invoke/VarHandle" ∧ (parseMethodDescriptor yX0_goes.desc).map (fun d => d.parameters.length) = some 2 := by decide +kernel
set_option maxRecDepth 100000 in
theorem ctx_x0_goes {cs : Cs} {z : Nat} {kd : Kd} (P : Ptr) (I : Mem) (x1 : Int32) (x2 : Int32) (hz : kd z = (0, 0, 0)) : CtX cs z kd yX0_goes cX0_goes 5 (some .int) 427 10665 [.ref z, .int x1, .int x2] (P, I) (fun r => (some (.int r.1), (r.2.1, r.2.2))) (x0_goes kd P I z x1 x2) := by
  refine CtX.of RX0 (by decide) rfl (Nat.le_of_ble_eq_true rfl) ?_
  intro l D sz p e s m args below meth c hsh K hr hlk hK
  refine g_sub (ls' := [(0, .ref z), (1, .int x1), (2, .int x2)]) [0, 1, 2] rfl ?_
  unfold x0_goes
  refine g_iloadn K 1 rfl rfl 1 dX0_goes_0 rfl ?_
  refine g_iconst K (nI 1) ic_1 2 dX0_goes_1 rfl ?_
  refine g_bipush K (nI 60) bp_60 4 dX0_goes_2 rfl ?_
  refine g_callS K 7 (cts_x0_isIn x1 (nI 1) (nI 60)) (lw_S q478 q479 q151 q480) wds_x0_isIn (by decide) rfl (Nat.le_of_ble_eq_true rfl) dX0_goes_4 rfl (fun r1 _ => ?_)
  refine g_if_eq K 10 19 dX0_goes_7 rfl (by decide) (fun _ => ?_) (fun _ => ?_)
  · refine g_iconst K (-1 : Int32) ic_m1 20 dX0_goes_19 rfl ?_
    exact gx_iret K hK hsh hr hlk dX0_goes_20 rfl
  · refine g_iloadn K 2 rfl rfl 11 dX0_goes_10 rfl ?_
    refine g_iconst K (nI 0) ic_0 12 dX0_goes_11 rfl ?_
    refine g_iconst K (nI 3) ic_3 13 dX0_goes_12 rfl ?_
    refine g_callS K 16 (cts_x0_isIn x2 (nI 0) (nI 3)) (lw_S q478 q479 q151 q480) wds_x0_isIn (by decide) rfl (Nat.le_of_ble_eq_true rfl) dX0_goes_13 rfl (fun r2 _ => ?_)
    refine g_if_ne K 19 21 dX0_goes_16 rfl (by decide) (fun _ => ?_) (fun _ => ?_)
    · refine g_iconst K (-1 : Int32) ic_m1 20 dX0_goes_19 rfl ?_
      exact gx_iret K hK hsh hr hlk dX0_goes_20 rfl
    · refine g_aloadn K 0 rfl rfl 22 dX0_goes_21 rfl ?_
      refine gx_get K hK hsh 6 (v := .ref (z + 540)) 25 in_X0 hz rfl (Nat.le_of_ble_eq_true rfl) rfl (by decide) (Or.inl q414) rfl dX0_goes_22 rfl ?_
      refine g_aloadn K 0 rfl rfl 26 dX0_goes_25 rfl ?_
      refine gx_get K hK hsh 4 (v := .ref (z + 2)) 29 in_X0 hz rfl (Nat.le_of_ble_eq_true rfl) rfl (by decide) (Or.inl q411) rfl dX0_goes_26 rfl ?_
      refine gx_call K hK hsh 32 (ctx_x1_thinks P I (z + 540) (z + 2) (sh_0_thought hsh hz) (sh_0_borough hsh hz)) (lw_V q1269 q1270 q1271 q152 q1272) wd_x1_thinks (sh_0_thought hsh hz) rfl (Nat.le_of_ble_eq_true rfl) rfl (by decide) rfl (Nat.le_of_ble_eq_true rfl) dX0_goes_29 rfl (fun r3 hr4 => ?_)
      refine g_iconst K (nI 0) ic_0 33 dX0_goes_32 rfl ?_
      refine g_istoren K [(0, .ref z), (1, .int x1), (2, .int x2), (3, .int (nI 0))] [1, 2, 3, 0] rfl (by decide) rfl 34 dX0_goes_33 rfl ?_
      refine g_jn (head := 53) (L := fun j5 => [(0, .ref z), (2, .int x2)]) (sf := fun j5 => []) (mf := fun j5 => (j5.1, j5.2)) (fun j5 => ?_) (fun k6 h7 => ?_)
      · try dsimp only
        refine g_iloadn K 1 rfl rfl 54 dX0_goes_53 rfl ?_
        refine g_iconst K (nI 2) ic_2 55 dX0_goes_54 rfl ?_
        refine g_icmp_ge K 58 83 dX0_goes_55 rfl (by decide) (fun _ => ?_) (fun _ => ?_)
        · refine g_iconst K (nI 0) ic_0 84 dX0_goes_83 rfl ?_
          refine g_istoren K [(0, .ref z), (2, .int x2), (3, .int (nI 0))] [1, 2, 0] rfl (by decide) rfl 85 dX0_goes_84 rfl ?_
          refine g_iconst K (nI 0) ic_0 86 dX0_goes_85 rfl ?_
          refine g_istore K [(0, .ref z), (2, .int x2), (3, .int (nI 0)), (4, .int (nI 0))] [1, 2, 3, 0] (by decide) rfl 88 dX0_goes_86 rfl ?_
          refine g_lp (head := 88) (L := fun j8 => [(0, .ref z), (2, .int x2), (3, .int j8.1), (4, .int j8.2)]) (sf := fun j8 => []) (mf := fun j8 => (j5.1, j5.2)) (fun again9 h10 j8 => ?_) fuel ((nI 0), (nI 0))
          try dsimp only
          refine g_iload K 3 rfl 90 dX0_goes_88 rfl ?_
          refine g_aloadn K 0 rfl rfl 91 dX0_goes_90 rfl ?_
          refine gx_get K hK hsh 6 (v := .ref (z + 540)) 94 in_X0 hz rfl (Nat.le_of_ble_eq_true rfl) rfl (by decide) (Or.inl q414) rfl dX0_goes_91 rfl ?_
          refine gx_get K hK hsh 14 (v := .int (j5.2 (z + 540) 14)) 97 in_X1 (sh_0_thought hsh hz) rfl (Nat.le_of_ble_eq_true rfl) rfl (by decide) (Or.inr (nf_q327 hK.2)) rfl dX0_goes_94 rfl ?_
          refine g_icmp_ge K 100 143 dX0_goes_97 rfl (by decide) (fun _ => ?_) (fun _ => ?_)
          · refine g_iloadn K 2 rfl rfl 144 dX0_goes_143 rfl ?_
            exact gx_iret K hK hsh hr hlk dX0_goes_144 rfl
          · refine g_iloadn K 2 rfl rfl 101 dX0_goes_100 rfl ?_
            refine g_iloadn K 1 rfl rfl 102 dX0_goes_101 rfl ?_
            refine g_iconst K (nI 2) ic_2 103 dX0_goes_102 rfl ?_
            refine g_jn (head := 135) (L := fun j11 => [(0, .ref z), (2, .int x2), (4, .int j8.2)]) (sf := fun j11 => [.int j11, .int j8.1]) (mf := fun j11 => (j5.1, j5.2)) (fun j11 => ?_) (fun k12 h13 => ?_)
            · try dsimp only
              refine g_iadd K 136 dX0_goes_135 rfl ?_
              refine g_istoren K [(0, .ref z), (2, .int x2), (3, .int (j8.1 + j11)), (4, .int j8.2)] [1, 2, 0, 3] rfl (by decide) rfl 137 dX0_goes_136 rfl ?_
              refine g_iinc K (j8.2 + (nI 1)) 3 [(0, .ref z), (2, .int x2), (3, .int (j8.1 + j11)), (4, .int (j8.2 + (nI 1)))] [1, 2, 3, 0] rfl (by rw [ic_1]) (by decide) rfl 140 dX0_goes_137 rfl ?_
              refine g_goto K 88 dX0_goes_140 (by decide) ?_
              exact h10 ((j8.1 + j11), (j8.2 + (nI 1)))
            · refine g_icmp_ne K 106 122 dX0_goes_103 rfl (by decide) (fun _ => ?_) (fun _ => ?_)
              · refine g_aloadn K 0 rfl rfl 107 dX0_goes_106 rfl ?_
                refine gx_get K hK hsh 6 (v := .ref (z + 540)) 110 in_X0 hz rfl (Nat.le_of_ble_eq_true rfl) rfl (by decide) (Or.inl q414) rfl dX0_goes_107 rfl ?_
                refine gx_get K hK hsh 0 (v := .ref (z + 541)) 113 in_X1 (sh_0_thought hsh hz) rfl (Nat.le_of_ble_eq_true rfl) rfl (by decide) (Or.inr (nf_q298 hK.2)) rfl dX0_goes_110 rfl ?_
                refine g_iload K 3 rfl 115 dX0_goes_113 rfl ?_
                refine gx_hal K hK hsh 116 (sh_1_house hsh (sh_0_thought hsh hz)) dX0_goes_115 rfl (fun i16 hi17 => ?_)
                refine gx_get K hK hsh 4 (v := .int (j5.2 (z + 785 + 2 * i16) 4)) 119 in_X3 (sh_23 hsh (sh_1_house hsh (sh_0_thought hsh hz)) hi17) rfl (Nat.le_of_ble_eq_true rfl) rfl (by decide) (Or.inr (nf_q267 hK.2)) rfl dX0_goes_116 rfl ?_
                refine g_goto K 135 dX0_goes_119 (by decide) ?_
                refine g_sub (ls' := [(0, .ref z), (2, .int x2), (4, .int j8.2)]) [0, 1, 3] rfl ?_
                exact h13 (j5.2 (z + 785 + 2 * i16) 4)
              · refine g_aloadn K 0 rfl rfl 123 dX0_goes_122 rfl ?_
                refine gx_get K hK hsh 6 (v := .ref (z + 540)) 126 in_X0 hz rfl (Nat.le_of_ble_eq_true rfl) rfl (by decide) (Or.inl q414) rfl dX0_goes_123 rfl ?_
                refine gx_get K hK hsh 0 (v := .ref (z + 541)) 129 in_X1 (sh_0_thought hsh hz) rfl (Nat.le_of_ble_eq_true rfl) rfl (by decide) (Or.inr (nf_q298 hK.2)) rfl dX0_goes_126 rfl ?_
                refine g_iload K 3 rfl 131 dX0_goes_129 rfl ?_
                refine gx_hal K hK hsh 132 (sh_1_house hsh (sh_0_thought hsh hz)) dX0_goes_131 rfl (fun i14 hi15 => ?_)
                refine gx_get K hK hsh 5 (v := .int (j5.2 (z + 785 + 2 * i14) 5)) 135 in_X3 (sh_23 hsh (sh_1_house hsh (sh_0_thought hsh hz)) hi15) rfl (Nat.le_of_ble_eq_true rfl) rfl (by decide) (Or.inr (nf_q270 hK.2)) rfl dX0_goes_132 rfl ?_
                refine g_sub (ls' := [(0, .ref z), (2, .int x2), (4, .int j8.2)]) [0, 1, 3] rfl ?_
                exact h13 (j5.2 (z + 785 + 2 * i14) 5)
        · refine g_iloadn K 1 rfl rfl 59 dX0_goes_58 rfl ?_
          refine g_if_ne K 62 72 dX0_goes_59 rfl (by decide) (fun _ => ?_) (fun _ => ?_)
          · refine g_aloadn K 0 rfl rfl 63 dX0_goes_62 rfl ?_
            refine gx_get K hK hsh 6 (v := .ref (z + 540)) 66 in_X0 hz rfl (Nat.le_of_ble_eq_true rfl) rfl (by decide) (Or.inl q414) rfl dX0_goes_63 rfl ?_
            refine gx_get K hK hsh 17 (v := .int (j5.2 (z + 540) 17)) 69 in_X1 (sh_0_thought hsh hz) rfl (Nat.le_of_ble_eq_true rfl) rfl (by decide) (Or.inr (nf_q335 hK.2)) rfl dX0_goes_66 rfl ?_
            refine g_goto K 82 dX0_goes_69 (by decide) ?_
            exact gx_iret K hK hsh hr hlk dX0_goes_82 rfl
          · refine g_aloadn K 0 rfl rfl 73 dX0_goes_72 rfl ?_
            refine gx_get K hK hsh 6 (v := .ref (z + 540)) 76 in_X0 hz rfl (Nat.le_of_ble_eq_true rfl) rfl (by decide) (Or.inl q414) rfl dX0_goes_73 rfl ?_
            refine gx_call K hK hsh 79 (ctx_x1_standing j5.1 j5.2 (z + 540) (sh_0_thought hsh hz)) (lw_V q1274 q1071 q1072 q152 q1073) wd_x1_standing (sh_0_thought hsh hz) rfl (Nat.le_of_ble_eq_true rfl) rfl (by decide) rfl (Nat.le_of_ble_eq_true rfl) dX0_goes_76 rfl (fun r18 hr19 => ?_)
            refine g_callS K 82 (cts_j4_bitCount r18) (lw_S q1275 q1249 q160 q1250) wds_j4_bitCount (by decide) rfl (Nat.le_of_ble_eq_true rfl) dX0_goes_79 rfl (fun r20 _ => ?_)
            exact gx_iret K hK hsh hr hlk dX0_goes_82 rfl
      · refine g_lp (head := 34) (L := fun j21 => [(0, .ref z), (1, .int x1), (2, .int x2), (3, .int j21.1)]) (sf := fun j21 => []) (mf := fun j21 => (j21.2.1, j21.2.2)) (fun again22 h23 j21 => ?_) fuel ((nI 0), r3.1, r3.2)
        try dsimp only
        refine g_iloadn K 3 rfl rfl 35 dX0_goes_34 rfl ?_
        refine g_iloadn K 1 rfl rfl 36 dX0_goes_35 rfl ?_
        refine g_icmp_ge K 39 53 dX0_goes_36 rfl (by decide) (fun _ => ?_) (fun _ => ?_)
        · refine g_sub (ls' := [(0, .ref z), (2, .int x2)]) [0, 2] rfl ?_
          exact h7 (j21.2.1, j21.2.2)
        · refine g_aloadn K 0 rfl rfl 40 dX0_goes_39 rfl ?_
          refine gx_get K hK hsh 6 (v := .ref (z + 540)) 43 in_X0 hz rfl (Nat.le_of_ble_eq_true rfl) rfl (by decide) (Or.inl q414) rfl dX0_goes_40 rfl ?_
          refine gx_call K hK hsh 46 (ctx_x1_passes j21.2.1 j21.2.2 (z + 540) (sh_0_thought hsh hz)) (lw_V q1099 q1100 q1101 q152 q1102) wd_x1_passes (sh_0_thought hsh hz) rfl (Nat.le_of_ble_eq_true rfl) rfl (by decide) rfl (Nat.le_of_ble_eq_true rfl) dX0_goes_43 rfl (fun r24 hr25 => ?_)
          refine g_pop K rfl 47 dX0_goes_46 rfl ?_
          refine g_iinc K (j21.1 + (nI 1)) 3 [(0, .ref z), (1, .int x1), (2, .int x2), (3, .int (j21.1 + (nI 1)))] [1, 2, 3, 0] rfl (by rw [ic_1]) (by decide) rfl 50 dX0_goes_47 rfl ?_
          refine g_goto K 34 dX0_goes_50 (by decide) ?_
          exact h23 ((j21.1 + (nI 1)), r24.2.1, r24.2.2)
/-- GingerRents.stands(I)I -/
def x0_stands (kd : Kd) (P : Ptr) (I : Mem) (z : Nat) (x1 : Int32) : Option (Int32 × Ptr × Mem) :=
  (x0_isHouse I z x1).bind fun r1 =>
  if (bI r1) = 0 then
  some ((-2 : Int32), P, I)
  else
  (x1_thinks kd P I (z + 540) (z + 2)).bind fun r3 =>
  lp (fun again6 (j5 : Int32 × Ptr × Mem) =>
  if (nI 200) < j5.1 then
  some ((-1 : Int32), j5.2.1, j5.2.2)
  else
  (ix 12 x1).bind fun i8 =>
  (x3_stands j5.2.2 (z + 785 + 2 * i8)).bind fun r10 =>
  if (bI r10) = 0 then
  some (j5.1, j5.2.1, j5.2.2)
  else
  (x1_passes kd j5.2.1 j5.2.2 (z + 540)).bind fun r12 =>
  again6 ((j5.1 + (nI 1)), r12.2.1, r12.2.2)) fuel ((nI 0), r3.1, r3.2)
theorem wd_x0_stands : yX0_stands.cls = RX0 ∧ yX0_stands.cls ≠ "java/lang/invoke/MethodHandle" ∧ yX0_stands.cls ≠ "java/lang/invoke/VarHandle" ∧ (parseMethodDescriptor yX0_stands.desc).map (fun d => d.parameters.length) = some 1 := by decide +kernel
set_option maxRecDepth 100000 in
theorem ctx_x0_stands {cs : Cs} {z : Nat} {kd : Kd} (P : Ptr) (I : Mem) (x1 : Int32) (hz : kd z = (0, 0, 0)) : CtX cs z kd yX0_stands cX0_stands 3 (some .int) 427 10665 [.ref z, .int x1] (P, I) (fun r => (some (.int r.1), (r.2.1, r.2.2))) (x0_stands kd P I z x1) := by
  refine CtX.of RX0 (by decide) rfl (Nat.le_of_ble_eq_true rfl) ?_
  intro l D sz p e s m args below meth c hsh K hr hlk hK
  refine g_sub (ls' := [(0, .ref z), (1, .int x1)]) [0, 1] rfl ?_
  unfold x0_stands
  refine g_aloadn K 0 rfl rfl 1 dX0_stands_0 rfl ?_
  refine g_iloadn K 1 rfl rfl 2 dX0_stands_1 rfl ?_
  refine gx_call K hK hsh 5 (ctx_x0_isHouse P I x1 hz) (lw_V q1020 q1022 qs31 q151 q1023) wd_x0_isHouse hz rfl (Nat.le_of_ble_eq_true rfl) rfl (by decide) rfl (Nat.le_of_ble_eq_true rfl) dX0_stands_2 rfl (fun r1 hr2 => ?_)
  refine g_if_ne K 8 11 dX0_stands_5 rfl (by decide) (fun _ => ?_) (fun _ => ?_)
  · refine g_bipush K (-2 : Int32) bp_m2 10 dX0_stands_8 rfl ?_
    exact gx_iret K hK hsh hr hlk dX0_stands_10 rfl
  · refine g_aloadn K 0 rfl rfl 12 dX0_stands_11 rfl ?_
    refine gx_get K hK hsh 6 (v := .ref (z + 540)) 15 in_X0 hz rfl (Nat.le_of_ble_eq_true rfl) rfl (by decide) (Or.inl q414) rfl dX0_stands_12 rfl ?_
    refine g_aloadn K 0 rfl rfl 16 dX0_stands_15 rfl ?_
    refine gx_get K hK hsh 4 (v := .ref (z + 2)) 19 in_X0 hz rfl (Nat.le_of_ble_eq_true rfl) rfl (by decide) (Or.inl q411) rfl dX0_stands_16 rfl ?_
    refine gx_call K hK hsh 22 (ctx_x1_thinks P I (z + 540) (z + 2) (sh_0_thought hsh hz) (sh_0_borough hsh hz)) (lw_V q1269 q1270 q1271 q152 q1272) wd_x1_thinks (sh_0_thought hsh hz) rfl (Nat.le_of_ble_eq_true rfl) rfl (by decide) rfl (Nat.le_of_ble_eq_true rfl) dX0_stands_19 rfl (fun r3 hr4 => ?_)
    refine g_iconst K (nI 0) ic_0 23 dX0_stands_22 rfl ?_
    refine g_istoren K [(0, .ref z), (1, .int x1), (2, .int (nI 0))] [1, 2, 0] rfl (by decide) rfl 24 dX0_stands_23 rfl ?_
    refine g_lp (head := 24) (L := fun j5 => [(0, .ref z), (1, .int x1), (2, .int j5.1)]) (sf := fun j5 => []) (mf := fun j5 => (j5.2.1, j5.2.2)) (fun again6 h7 j5 => ?_) fuel ((nI 0), r3.1, r3.2)
    try dsimp only
    refine g_iloadn K 2 rfl rfl 25 dX0_stands_24 rfl ?_
    refine g_sipush K (nI 200) sp_200 28 dX0_stands_25 rfl ?_
    refine g_icmp_gt K 31 62 dX0_stands_28 rfl (by decide) (fun _ => ?_) (fun _ => ?_)
    · refine g_iconst K (-1 : Int32) ic_m1 63 dX0_stands_62 rfl ?_
      exact gx_iret K hK hsh hr hlk dX0_stands_63 rfl
    · refine g_aloadn K 0 rfl rfl 32 dX0_stands_31 rfl ?_
      refine gx_get K hK hsh 6 (v := .ref (z + 540)) 35 in_X0 hz rfl (Nat.le_of_ble_eq_true rfl) rfl (by decide) (Or.inl q414) rfl dX0_stands_32 rfl ?_
      refine gx_get K hK hsh 0 (v := .ref (z + 541)) 38 in_X1 (sh_0_thought hsh hz) rfl (Nat.le_of_ble_eq_true rfl) rfl (by decide) (Or.inr (nf_q298 hK.2)) rfl dX0_stands_35 rfl ?_
      refine g_iloadn K 1 rfl rfl 39 dX0_stands_38 rfl ?_
      refine gx_hal K hK hsh 40 (sh_1_house hsh (sh_0_thought hsh hz)) dX0_stands_39 rfl (fun i8 hi9 => ?_)
      refine gx_call K hK hsh 43 (ctx_x3_stands j5.2.1 j5.2.2 (z + 785 + 2 * i8) (sh_23 hsh (sh_1_house hsh (sh_0_thought hsh hz)) hi9)) (lw_V q1044 q1037 q1038 q157 q1039) wd_x3_stands (sh_23 hsh (sh_1_house hsh (sh_0_thought hsh hz)) hi9) rfl (Nat.le_of_ble_eq_true rfl) rfl (by decide) rfl (Nat.le_of_ble_eq_true rfl) dX0_stands_40 rfl (fun r10 hr11 => ?_)
      refine g_if_ne K 46 48 dX0_stands_43 rfl (by decide) (fun _ => ?_) (fun _ => ?_)
      · refine g_iloadn K 2 rfl rfl 47 dX0_stands_46 rfl ?_
        exact gx_iret K hK hsh hr hlk dX0_stands_47 rfl
      · refine g_aloadn K 0 rfl rfl 49 dX0_stands_48 rfl ?_
        refine gx_get K hK hsh 6 (v := .ref (z + 540)) 52 in_X0 hz rfl (Nat.le_of_ble_eq_true rfl) rfl (by decide) (Or.inl q414) rfl dX0_stands_49 rfl ?_
        refine gx_call K hK hsh 55 (ctx_x1_passes j5.2.1 j5.2.2 (z + 540) (sh_0_thought hsh hz)) (lw_V q1099 q1100 q1101 q152 q1102) wd_x1_passes (sh_0_thought hsh hz) rfl (Nat.le_of_ble_eq_true rfl) rfl (by decide) rfl (Nat.le_of_ble_eq_true rfl) dX0_stands_52 rfl (fun r12 hr13 => ?_)
        refine g_pop K rfl 56 dX0_stands_55 rfl ?_
        refine g_iinc K (j5.1 + (nI 1)) 2 [(0, .ref z), (1, .int x1), (2, .int (j5.1 + (nI 1)))] [1, 2, 0] rfl (by rw [ic_1]) (by decide) rfl 59 dX0_stands_56 rfl ?_
        refine g_goto K 24 dX0_stands_59 (by decide) ?_
        exact h7 ((j5.1 + (nI 1)), r12.2.1, r12.2.2)
/-- GingerRents.of(II)I -/
def x0_of (kd : Kd) (P : Ptr) (I : Mem) (z : Nat) (x1 : Int32) (x2 : Int32) : Option (Int32 × Ptr × Mem) :=
  (x0_isHouse I z x1).bind fun r1 =>
  if (bI r1) = 0 then
  some ((-1 : Int32), P, I)
  else
  (x0_at I z x1).bind fun r3 =>
  (x0_isIn x2 (nI 20) (nI 23)).bind fun r5 =>
  if (bI r5) = 0 then
  (x0_isIn x2 (nI 30) (nI 33)).bind fun r6 =>
  if (bI r6) = 0 then
  if x2 = (nI 0) then
  (rd I (r3 + 1) 4 x2).bind fun v7 =>
  some (v7, P, I)
  else
  if x2 = (nI 1) then
  (rd I (r3 + 1) 4 x2).bind fun v9 =>
  some (v9, P, I)
  else
  if x2 = (nI 2) then
  (rd I (r3 + 1) 4 x2).bind fun v11 =>
  some (v11, P, I)
  else
  if x2 = (nI 3) then
  (rd I (r3 + 1) 4 x2).bind fun v13 =>
  some (v13, P, I)
  else
  if x2 = (nI 4) then
  some ((I r3 1), P, I)
  else
  if x2 = (nI 5) then
  some ((I r3 2), P, I)
  else
  if x2 = (nI 6) then
  some ((I r3 3), P, I)
  else
  if x2 = (nI 7) then
  some ((I r3 5), P, I)
  else
  if x2 = (nI 8) then
  some ((I r3 4), P, I)
  else
  if x2 = (nI 9) then
  if (I r3 7) = 0 then
  some ((nI 0), P, I)
  else
  some ((nI 1), P, I)
  else
  if x2 = (nI 10) then
  some ((I r3 6), P, I)
  else
  if x2 = (nI 11) then
  (x1_rent kd P I (z + 2) r3).bind fun r22 =>
  some (r22.1, r22.2.1, r22.2.2)
  else
  if x2 = (nI 12) then
  (pk kd (P (z + 2) 13) (20, 12, 0)).bind fun b25 =>
  (rd I b25 12 x1).bind fun v27 =>
  some (v27, P, I)
  else
  some ((-1 : Int32), P, I)
  else
  (x1_melts kd P I (z + 2) r3 (x2 - (nI 30))).bind fun r29 =>
  some (r29.1, r29.2.1, r29.2.2)
  else
  (x1_gnaws kd P I (z + 2) r3 (x2 - (nI 20))).bind fun r31 =>
  some (r31.1, r31.2.1, r31.2.2)
theorem wd_x0_of : yX0_of.cls = RX0 ∧ yX0_of.cls ≠ "java/lang/invoke/MethodHandle" ∧ yX0_of.cls ≠ "java/lang/invoke/VarHandle" ∧ (parseMethodDescriptor yX0_of.desc).map (fun d => d.parameters.length) = some 2 := by decide +kernel
set_option maxRecDepth 100000 in
theorem ctx_x0_of {cs : Cs} {z : Nat} {kd : Kd} (P : Ptr) (I : Mem) (x1 : Int32) (x2 : Int32) (hz : kd z = (0, 0, 0)) : CtX cs z kd yX0_of cX0_of 4 (some .int) 425 10618 [.ref z, .int x1, .int x2] (P, I) (fun r => (some (.int r.1), (r.2.1, r.2.2))) (x0_of kd P I z x1 x2) := by
  refine CtX.of RX0 (by decide) rfl (Nat.le_of_ble_eq_true rfl) ?_
  intro l D sz p e s m args below meth c hsh K hr hlk hK
  refine g_sub (ls' := [(0, .ref z), (1, .int x1), (2, .int x2)]) [0, 1, 2] rfl ?_
  unfold x0_of
  refine g_aloadn K 0 rfl rfl 1 dX0_of_0 rfl ?_
  refine g_iloadn K 1 rfl rfl 2 dX0_of_1 rfl ?_
  refine gx_call K hK hsh 5 (ctx_x0_isHouse P I x1 hz) (lw_V q1020 q1022 qs31 q151 q1023) wd_x0_isHouse hz rfl (Nat.le_of_ble_eq_true rfl) rfl (by decide) rfl (Nat.le_of_ble_eq_true rfl) dX0_of_2 rfl (fun r1 hr2 => ?_)
  refine g_if_ne K 8 10 dX0_of_5 rfl (by decide) (fun _ => ?_) (fun _ => ?_)
  · refine g_iconst K (-1 : Int32) ic_m1 9 dX0_of_8 rfl ?_
    exact gx_iret K hK hsh hr hlk dX0_of_9 rfl
  · refine g_aloadn K 0 rfl rfl 11 dX0_of_10 rfl ?_
    refine g_iloadn K 1 rfl rfl 12 dX0_of_11 rfl ?_
    refine gx_call K hK hsh 15 (ctx_x0_at P I x1 hz) (lw_V q1004 q1006 qs29 q151 q1007) wd_x0_at hz rfl (Nat.le_of_ble_eq_true rfl) rfl (by decide) rfl (Nat.le_of_ble_eq_true rfl) dX0_of_12 rfl (fun r3 hr4 => ?_)
    refine g_astoren K [(0, .ref z), (1, .int x1), (2, .int x2), (3, .ref r3)] [1, 2, 3, 0] rfl (by decide) rfl 16 dX0_of_15 rfl ?_
    refine g_iloadn K 2 rfl rfl 17 dX0_of_16 rfl ?_
    refine g_bipush K (nI 20) bp_20 19 dX0_of_17 rfl ?_
    refine g_bipush K (nI 23) bp_23 21 dX0_of_19 rfl ?_
    refine g_callS K 24 (cts_x0_isIn x2 (nI 20) (nI 23)) (lw_S q478 q479 q151 q480) wds_x0_isIn (by decide) rfl (Nat.le_of_ble_eq_true rfl) dX0_of_21 rfl (fun r5 _ => ?_)
    refine g_if_eq K 27 40 dX0_of_24 rfl (by decide) (fun _ => ?_) (fun _ => ?_)
    · refine g_iloadn K 2 rfl rfl 41 dX0_of_40 rfl ?_
      refine g_bipush K (nI 30) bp_30 43 dX0_of_41 rfl ?_
      refine g_bipush K (nI 33) bp_33 45 dX0_of_43 rfl ?_
      refine g_callS K 48 (cts_x0_isIn x2 (nI 30) (nI 33)) (lw_S q478 q479 q151 q480) wds_x0_isIn (by decide) rfl (Nat.le_of_ble_eq_true rfl) dX0_of_45 rfl (fun r6 _ => ?_)
      refine g_if_eq K 51 64 dX0_of_48 rfl (by decide) (fun _ => ?_) (fun _ => ?_)
      · refine g_iloadn K 2 rfl rfl 65 dX0_of_64 rfl ?_
        refine g_tcase K (nI 0) 132 dX0_of_65 (by decide) (by decide) rfl (by decide) (fun _ => ?_) (fun hx8 => ?_)
        · refine g_aloadn K 3 rfl rfl 133 dX0_of_132 rfl ?_
          refine gx_get K hK hsh 0 (v := .ref (r3 + 1)) 136 in_X3 (at_kd hsh hz hr4) rfl (Nat.le_of_ble_eq_true rfl) rfl (by decide) (Or.inr (nf_q254 hK.2)) rfl dX0_of_133 rfl ?_
          refine g_iloadn K 2 rfl rfl 137 dX0_of_136 rfl ?_
          refine gx_ald K hK hsh 138 (sh_3_wall hsh (at_kd hsh hz hr4)) dX0_of_137 rfl (fun v7 => ?_)
          exact gx_iret K hK hsh hr hlk dX0_of_138 rfl
        · refine g_tcase K (nI 1) 132 dX0_of_65 (by decide) (by decide) rfl (by decide) (fun _ => ?_) (fun hx10 => ?_)
          · refine g_aloadn K 3 rfl rfl 133 dX0_of_132 rfl ?_
            refine gx_get K hK hsh 0 (v := .ref (r3 + 1)) 136 in_X3 (at_kd hsh hz hr4) rfl (Nat.le_of_ble_eq_true rfl) rfl (by decide) (Or.inr (nf_q254 hK.2)) rfl dX0_of_133 rfl ?_
            refine g_iloadn K 2 rfl rfl 137 dX0_of_136 rfl ?_
            refine gx_ald K hK hsh 138 (sh_3_wall hsh (at_kd hsh hz hr4)) dX0_of_137 rfl (fun v9 => ?_)
            exact gx_iret K hK hsh hr hlk dX0_of_138 rfl
          · refine g_tcase K (nI 2) 132 dX0_of_65 (by decide) (by decide) rfl (by decide) (fun _ => ?_) (fun hx12 => ?_)
            · refine g_aloadn K 3 rfl rfl 133 dX0_of_132 rfl ?_
              refine gx_get K hK hsh 0 (v := .ref (r3 + 1)) 136 in_X3 (at_kd hsh hz hr4) rfl (Nat.le_of_ble_eq_true rfl) rfl (by decide) (Or.inr (nf_q254 hK.2)) rfl dX0_of_133 rfl ?_
              refine g_iloadn K 2 rfl rfl 137 dX0_of_136 rfl ?_
              refine gx_ald K hK hsh 138 (sh_3_wall hsh (at_kd hsh hz hr4)) dX0_of_137 rfl (fun v11 => ?_)
              exact gx_iret K hK hsh hr hlk dX0_of_138 rfl
            · refine g_tcase K (nI 3) 132 dX0_of_65 (by decide) (by decide) rfl (by decide) (fun _ => ?_) (fun hx14 => ?_)
              · refine g_aloadn K 3 rfl rfl 133 dX0_of_132 rfl ?_
                refine gx_get K hK hsh 0 (v := .ref (r3 + 1)) 136 in_X3 (at_kd hsh hz hr4) rfl (Nat.le_of_ble_eq_true rfl) rfl (by decide) (Or.inr (nf_q254 hK.2)) rfl dX0_of_133 rfl ?_
                refine g_iloadn K 2 rfl rfl 137 dX0_of_136 rfl ?_
                refine gx_ald K hK hsh 138 (sh_3_wall hsh (at_kd hsh hz hr4)) dX0_of_137 rfl (fun v13 => ?_)
                exact gx_iret K hK hsh hr hlk dX0_of_138 rfl
              · refine g_tcase K (nI 4) 139 dX0_of_65 (by decide) (by decide) rfl (by decide) (fun _ => ?_) (fun hx15 => ?_)
                · refine g_aloadn K 3 rfl rfl 140 dX0_of_139 rfl ?_
                  refine gx_get K hK hsh 1 (v := .int (I r3 1)) 143 in_X3 (at_kd hsh hz hr4) rfl (Nat.le_of_ble_eq_true rfl) rfl (by decide) (Or.inr (nf_q257 hK.2)) rfl dX0_of_140 rfl ?_
                  exact gx_iret K hK hsh hr hlk dX0_of_143 rfl
                · refine g_tcase K (nI 5) 144 dX0_of_65 (by decide) (by decide) rfl (by decide) (fun _ => ?_) (fun hx16 => ?_)
                  · refine g_aloadn K 3 rfl rfl 145 dX0_of_144 rfl ?_
                    refine gx_get K hK hsh 2 (v := .int (I r3 2)) 148 in_X3 (at_kd hsh hz hr4) rfl (Nat.le_of_ble_eq_true rfl) rfl (by decide) (Or.inr (nf_q260 hK.2)) rfl dX0_of_145 rfl ?_
                    exact gx_iret K hK hsh hr hlk dX0_of_148 rfl
                  · refine g_tcase K (nI 6) 149 dX0_of_65 (by decide) (by decide) rfl (by decide) (fun _ => ?_) (fun hx17 => ?_)
                    · refine g_aloadn K 3 rfl rfl 150 dX0_of_149 rfl ?_
                      refine gx_get K hK hsh 3 (v := .int (I r3 3)) 153 in_X3 (at_kd hsh hz hr4) rfl (Nat.le_of_ble_eq_true rfl) rfl (by decide) (Or.inr (nf_q263 hK.2)) rfl dX0_of_150 rfl ?_
                      exact gx_iret K hK hsh hr hlk dX0_of_153 rfl
                    · refine g_tcase K (nI 7) 154 dX0_of_65 (by decide) (by decide) rfl (by decide) (fun _ => ?_) (fun hx18 => ?_)
                      · refine g_aloadn K 3 rfl rfl 155 dX0_of_154 rfl ?_
                        refine gx_get K hK hsh 5 (v := .int (I r3 5)) 158 in_X3 (at_kd hsh hz hr4) rfl (Nat.le_of_ble_eq_true rfl) rfl (by decide) (Or.inr (nf_q270 hK.2)) rfl dX0_of_155 rfl ?_
                        exact gx_iret K hK hsh hr hlk dX0_of_158 rfl
                      · refine g_tcase K (nI 8) 159 dX0_of_65 (by decide) (by decide) rfl (by decide) (fun _ => ?_) (fun hx19 => ?_)
                        · refine g_aloadn K 3 rfl rfl 160 dX0_of_159 rfl ?_
                          refine gx_get K hK hsh 4 (v := .int (I r3 4)) 163 in_X3 (at_kd hsh hz hr4) rfl (Nat.le_of_ble_eq_true rfl) rfl (by decide) (Or.inr (nf_q267 hK.2)) rfl dX0_of_160 rfl ?_
                          exact gx_iret K hK hsh hr hlk dX0_of_163 rfl
                        · refine g_tcase K (nI 9) 164 dX0_of_65 (by decide) (by decide) rfl (by decide) (fun _ => ?_) (fun hx20 => ?_)
                          · refine g_aloadn K 3 rfl rfl 165 dX0_of_164 rfl ?_
                            refine gx_get K hK hsh 7 (v := .int (I r3 7)) 168 in_X3 (at_kd hsh hz hr4) rfl (Nat.le_of_ble_eq_true rfl) rfl (by decide) (Or.inr (nf_q276 hK.2)) rfl dX0_of_165 rfl ?_
                            refine g_if_eq K 171 175 dX0_of_168 rfl (by decide) (fun _ => ?_) (fun _ => ?_)
                            · refine g_iconst K (nI 0) ic_0 176 dX0_of_175 rfl ?_
                              exact gx_iret K hK hsh hr hlk dX0_of_176 rfl
                            · refine g_iconst K (nI 1) ic_1 172 dX0_of_171 rfl ?_
                              refine g_goto K 176 dX0_of_172 (by decide) ?_
                              exact gx_iret K hK hsh hr hlk dX0_of_176 rfl
                          · refine g_tcase K (nI 10) 177 dX0_of_65 (by decide) (by decide) rfl (by decide) (fun _ => ?_) (fun hx21 => ?_)
                            · refine g_aloadn K 3 rfl rfl 178 dX0_of_177 rfl ?_
                              refine gx_get K hK hsh 6 (v := .int (I r3 6)) 181 in_X3 (at_kd hsh hz hr4) rfl (Nat.le_of_ble_eq_true rfl) rfl (by decide) (Or.inr (nf_q273 hK.2)) rfl dX0_of_178 rfl ?_
                              exact gx_iret K hK hsh hr hlk dX0_of_181 rfl
                            · refine g_tcase K (nI 11) 182 dX0_of_65 (by decide) (by decide) rfl (by decide) (fun _ => ?_) (fun hx24 => ?_)
                              · refine g_aloadn K 0 rfl rfl 183 dX0_of_182 rfl ?_
                                refine gx_get K hK hsh 4 (v := .ref (z + 2)) 186 in_X0 hz rfl (Nat.le_of_ble_eq_true rfl) rfl (by decide) (Or.inl q411) rfl dX0_of_183 rfl ?_
                                refine g_aloadn K 3 rfl rfl 187 dX0_of_186 rfl ?_
                                refine gx_call K hK hsh 190 (ctx_x1_rent P I (z + 2) r3 (sh_0_borough hsh hz) (at_kd hsh hz hr4)) (lw_V q1260 q1180 q1181 q152 q1182) wd_x1_rent (sh_0_borough hsh hz) rfl (Nat.le_of_ble_eq_true rfl) rfl (by decide) rfl (Nat.le_of_ble_eq_true rfl) dX0_of_187 rfl (fun r22 hr23 => ?_)
                                exact gx_iret K hK hsh hr hlk dX0_of_190 rfl
                              · refine g_tcase K (nI 12) 191 dX0_of_65 (by decide) (by decide) rfl (by decide) (fun _ => ?_) (fun hx28 => ?_)
                                · refine g_aloadn K 0 rfl rfl 192 dX0_of_191 rfl ?_
                                  refine gx_get K hK hsh 4 (v := .ref (z + 2)) 195 in_X0 hz rfl (Nat.le_of_ble_eq_true rfl) rfl (by decide) (Or.inl q411) rfl dX0_of_192 rfl ?_
                                  refine gx_getp K hK hsh 13 (20, 12, 0) 198 in_X1 (sh_0_borough hsh hz) rfl (Nat.le_of_ble_eq_true rfl) rfl (by decide) (Or.inr (nf_q324 hK.2)) rfl dX0_of_195 rfl (fun b25 hb26 => ?_)
                                  refine g_iloadn K 1 rfl rfl 199 dX0_of_198 rfl ?_
                                  refine gx_ald K hK hsh 200 hb26 dX0_of_199 rfl (fun v27 => ?_)
                                  exact gx_iret K hK hsh hr hlk dX0_of_200 rfl
                                · refine g_tdef K 201 dX0_of_65 (by have := tne (k := 0) (by decide) hx8; have := tne (k := 1) (by decide) hx10; have := tne (k := 2) (by decide) hx12; have := tne (k := 3) (by decide) hx14; have := tne (k := 4) (by decide) hx15; have := tne (k := 5) (by decide) hx16; have := tne (k := 6) (by decide) hx17; have := tne (k := 7) (by decide) hx18; have := tne (k := 8) (by decide) hx19; have := tne (k := 9) (by decide) hx20; have := tne (k := 10) (by decide) hx21; have := tne (k := 11) (by decide) hx24; have := tne (k := 12) (by decide) hx28; omega) (by decide) ?_
                                  refine g_iconst K (-1 : Int32) ic_m1 202 dX0_of_201 rfl ?_
                                  exact gx_iret K hK hsh hr hlk dX0_of_202 rfl
      · refine g_aloadn K 0 rfl rfl 52 dX0_of_51 rfl ?_
        refine gx_get K hK hsh 4 (v := .ref (z + 2)) 55 in_X0 hz rfl (Nat.le_of_ble_eq_true rfl) rfl (by decide) (Or.inl q411) rfl dX0_of_52 rfl ?_
        refine g_aloadn K 3 rfl rfl 56 dX0_of_55 rfl ?_
        refine g_iloadn K 2 rfl rfl 57 dX0_of_56 rfl ?_
        refine g_bipush K (nI 30) bp_30 59 dX0_of_57 rfl ?_
        refine g_isub K 60 dX0_of_59 rfl ?_
        refine gx_call K hK hsh 63 (ctx_x1_melts P I (z + 2) r3 (x2 - (nI 30)) (sh_0_borough hsh hz) (at_kd hsh hz hr4)) (lw_V q1259 q1244 q1245 q152 q1246) wd_x1_melts (sh_0_borough hsh hz) rfl (Nat.le_of_ble_eq_true rfl) rfl (by decide) rfl (Nat.le_of_ble_eq_true rfl) dX0_of_60 rfl (fun r29 hr30 => ?_)
        exact gx_iret K hK hsh hr hlk dX0_of_63 rfl
    · refine g_aloadn K 0 rfl rfl 28 dX0_of_27 rfl ?_
      refine gx_get K hK hsh 4 (v := .ref (z + 2)) 31 in_X0 hz rfl (Nat.le_of_ble_eq_true rfl) rfl (by decide) (Or.inl q411) rfl dX0_of_28 rfl ?_
      refine g_aloadn K 3 rfl rfl 32 dX0_of_31 rfl ?_
      refine g_iloadn K 2 rfl rfl 33 dX0_of_32 rfl ?_
      refine g_bipush K (nI 20) bp_20 35 dX0_of_33 rfl ?_
      refine g_isub K 36 dX0_of_35 rfl ?_
      refine gx_call K hK hsh 39 (ctx_x1_gnaws P I (z + 2) r3 (x2 - (nI 20)) (sh_0_borough hsh hz) (at_kd hsh hz hr4)) (lw_V q1258 q1230 q1231 q152 q1232) wd_x1_gnaws (sh_0_borough hsh hz) rfl (Nat.le_of_ble_eq_true rfl) rfl (by decide) rfl (Nat.le_of_ble_eq_true rfl) dX0_of_36 rfl (fun r31 hr32 => ?_)
      exact gx_iret K hK hsh hr hlk dX0_of_39 rfl
