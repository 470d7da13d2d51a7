theorem sp_500 : (Int16.ofInt (500)).toInt32 = (nI 500) := by decide
/-- jdk/internal/util/Preconditions.checkIndex(IILjava/util/function/BiFunction;)I -/
def j6_checkIndex (x1 : Int32) (x2 : Int32) : Option Int32 :=
  jn (fun (j1 : Unit) =>
  none) (fun k2 =>
  if x1 < 0 then
  k2 ()
  else
  if x1 < x2 then
  some x1
  else
  k2 ())
theorem wds_j6_checkIndex : yJ6_checkIndex.cls ≠ "java/lang/invoke/MethodHandle" ∧ yJ6_checkIndex.cls ≠ "java/lang/invoke/VarHandle" ∧ (parseMethodDescriptor yJ6_checkIndex.desc).map (fun d => d.parameters.length) = some 3 := by decide +kernel
set_option maxRecDepth 100000 in
theorem cts_j6_checkIndex (x1 : Int32) (x2 : Int32) : CtS yJ6_checkIndex cJ6_checkIndex 3 (some .int) 0 0 [.int x1, .int x2, .null] (fun r => some (.int r)) (j6_checkIndex x1 x2) := by
  refine CtS.of RJ6 (by decide) rfl (Nat.le_of_ble_eq_true rfl) ?_
  intro l p e s m args below meth c K hr hlk
  refine g_sub (ls' := [(0, .int x1), (1, .int x2), (2, .null)]) [0, 1, 2] rfl ?_
  unfold j6_checkIndex
  refine g_iloadn K 0 rfl rfl 1 dJ6_checkIndex_0 rfl ?_
  refine g_jn (head := 9) (L := fun j1 => [(0, .int x1), (1, .int x2), (2, .null)]) (sf := fun j1 => []) (mf := fun j1 => ()) (fun j1 => ?_) (fun k2 h3 => ?_)
  · try dsimp only
    exact g_none
  · refine g_if_lt K 4 9 dJ6_checkIndex_1 rfl (by decide) (fun _ => ?_) (fun _ => ?_)
    · exact h3 ()
    · refine g_iloadn K 0 rfl rfl 5 dJ6_checkIndex_4 rfl ?_
      refine g_iloadn K 1 rfl rfl 6 dJ6_checkIndex_5 rfl ?_
      refine g_icmp_lt K 9 16 dJ6_checkIndex_6 rfl (by decide) (fun _ => ?_) (fun _ => ?_)
      · refine g_iloadn K 0 rfl rfl 17 dJ6_checkIndex_16 rfl ?_
        exact gs_iret K hr hlk dJ6_checkIndex_17 rfl
      · exact h3 ()
/-- java/util/Objects.checkIndex(II)I -/
def j5_checkIndex (x1 : Int32) (x2 : Int32) : Option Int32 :=
  (j6_checkIndex x1 x2).bind fun r1 =>
  some r1
theorem wds_j5_checkIndex : yJ5_checkIndex.cls ≠ "java/lang/invoke/MethodHandle" ∧ yJ5_checkIndex.cls ≠ "java/lang/invoke/VarHandle" ∧ (parseMethodDescriptor yJ5_checkIndex.desc).map (fun d => d.parameters.length) = some 2 := by decide +kernel
set_option maxRecDepth 100000 in
theorem cts_j5_checkIndex (x1 : Int32) (x2 : Int32) : CtS yJ5_checkIndex cJ5_checkIndex 2 (some .int) 1 22 [.int x1, .int x2] (fun r => some (.int r)) (j5_checkIndex x1 x2) := by
  refine CtS.of RJ5 (by decide) rfl (Nat.le_of_ble_eq_true rfl) ?_
  intro l p e s m args below meth c K hr hlk
  refine g_sub (ls' := [(0, .int x1), (1, .int x2)]) [0, 1] rfl ?_
  unfold j5_checkIndex
  refine g_iloadn K 0 rfl rfl 1 dJ5_checkIndex_0 rfl ?_
  refine g_iloadn K 1 rfl rfl 2 dJ5_checkIndex_1 rfl ?_
  refine g_null K 3 dJ5_checkIndex_2 rfl ?_
  refine g_callS K 6 (cts_j6_checkIndex x1 x2) (lw_S q1111 q584 q162 q585) wds_j6_checkIndex (by decide) rfl (Nat.le_of_ble_eq_true rfl) dJ5_checkIndex_3 rfl (fun r1 _ => ?_)
  exact gs_iret K hr hlk dJ5_checkIndex_6 rfl
/-- java/util/ArrayList.elementData(I)Ljava/lang/Object; -/
def j2_elementData (kd : Kd) (P : Ptr) (I : Mem) (a : Nat) (x1 : Int32) : Option (Nat) :=
  (pkk kd (P a 1) 25).bind fun b1 =>
  (pio P b1 (kd b1).2.1 x1).bind fun b3 =>
  some b3
theorem wd_j2_elementData : yJ2_elementData.cls = RJ2 ∧ yJ2_elementData.cls ≠ "java/lang/invoke/MethodHandle" ∧ yJ2_elementData.cls ≠ "java/lang/invoke/VarHandle" ∧ (parseMethodDescriptor yJ2_elementData.desc).map (fun d => d.parameters.length) = some 1 := by decide +kernel
set_option maxRecDepth 100000 in
theorem ctx_j2_elementData {cs : Cs} {z : Nat} {kd : Kd} (P : Ptr) (I : Mem) (a : Nat) (x1 : Int32) (ha : kd a = (18, 0, 0)) : CtX cs z kd yJ2_elementData cJ2_elementData 2 (some (.object "java/lang/Object")) 0 0 [.ref a, .int x1] (P, I) (fun r => (some (.ref r), (P, I))) (j2_elementData kd P I a x1) := by
  refine CtX.of RJ2 (by decide) rfl (Nat.le_of_ble_eq_true rfl) ?_
  intro l D sz p e s m args below meth c hsh K hr hlk hK
  refine g_sub (ls' := [(0, .ref a), (1, .int x1)]) [0, 1] rfl ?_
  unfold j2_elementData
  refine g_aloadn K 0 rfl rfl 1 dJ2_elementData_0 rfl ?_
  refine gx_getk K hK hsh 1 25 4 in_J2 ha rfl (Nat.le_of_ble_eq_true rfl) rfl (by decide) (Or.inl q235) rfl dJ2_elementData_1 rfl (fun b1 hb2 => ?_)
  refine g_iloadn K 1 rfl rfl 5 dJ2_elementData_4 rfl ?_
  refine gx_oal K hK hsh 6 hb2 dJ2_elementData_5 rfl (fun b3 => ?_)
  exact gx_aret K hK hsh hr hlk dJ2_elementData_6 rfl
/-- java/util/ArrayList.get(I)Ljava/lang/Object; -/
def j2_get (kd : Kd) (P : Ptr) (I : Mem) (a : Nat) (x1 : Int32) : Option (Nat) :=
  (j5_checkIndex x1 (I a 2)).bind fun r1 =>
  (j2_elementData kd P I a x1).bind fun r2 =>
  some r2
theorem wd_j2_get : yJ2_get.cls = RJ2 ∧ yJ2_get.cls ≠ "java/lang/invoke/MethodHandle" ∧ yJ2_get.cls ≠ "java/lang/invoke/VarHandle" ∧ (parseMethodDescriptor yJ2_get.desc).map (fun d => d.parameters.length) = some 1 := by decide +kernel
set_option maxRecDepth 100000 in
theorem ctx_j2_get {cs : Cs} {z : Nat} {kd : Kd} (P : Ptr) (I : Mem) (a : Nat) (x1 : Int32) (ha : kd a = (18, 0, 0)) : CtX cs z kd yJ2_get cJ2_get 2 (some (.object "java/lang/Object")) 2 43 [.ref a, .int x1] (P, I) (fun r => (some (.ref r), (P, I))) (j2_get kd P I a x1) := by
  refine CtX.of RJ2 (by decide) rfl (Nat.le_of_ble_eq_true rfl) ?_
  intro l D sz p e s m args below meth c hsh K hr hlk hK
  refine g_sub (ls' := [(0, .ref a), (1, .int x1)]) [0, 1] rfl ?_
  unfold j2_get
  refine g_iloadn K 1 rfl rfl 1 dJ2_get_0 rfl ?_
  refine g_aloadn K 0 rfl rfl 2 dJ2_get_1 rfl ?_
  refine gx_get K hK hsh 2 (v := .int (I a 2)) 5 in_J2 ha rfl (Nat.le_of_ble_eq_true rfl) rfl (by decide) (Or.inl q236) rfl dJ2_get_2 rfl ?_
  refine g_callS K 8 (cts_j5_checkIndex x1 (I a 2)) (lw_S q1108 q1109 q161 q1110) wds_j5_checkIndex (by decide) rfl (Nat.le_of_ble_eq_true rfl) dJ2_get_5 rfl (fun r1 _ => ?_)
  refine g_pop K rfl 9 dJ2_get_8 rfl ?_
  refine g_aloadn K 0 rfl rfl 10 dJ2_get_9 rfl ?_
  refine g_iloadn K 1 rfl rfl 11 dJ2_get_10 rfl ?_
  refine gx_call K hK hsh 14 (ctx_j2_elementData P I a x1 ha) (lw_V q1112 q1113 q1114 q156 q1115) wd_j2_elementData ha rfl (Nat.le_of_ble_eq_true rfl) rfl (by decide) rfl (Nat.le_of_ble_eq_true rfl) dJ2_get_11 rfl (fun r2 hr3 => ?_)
  exact gx_aret K hK hsh hr hlk dJ2_get_14 rfl
theorem wd_fact : "GingerRents$Asker" ≠ "java/lang/invoke/MethodHandle" ∧ "GingerRents$Asker" ≠ "java/lang/invoke/VarHandle" ∧ (parseMethodDescriptor "(I)I").map (fun d => d.parameters.length) = some 1 := by decide +kernel
/-- GingerRents$Fixed.of(LGingerRents$Asker;)I -/
def x8_of (I : Mem) (a : Nat) (x1 : Nat) : Option (Int32) :=
  some (I a 0)
theorem wd_x8_of : yX8_of.cls = RX8 ∧ yX8_of.cls ≠ "java/lang/invoke/MethodHandle" ∧ yX8_of.cls ≠ "java/lang/invoke/VarHandle" ∧ (parseMethodDescriptor yX8_of.desc).map (fun d => d.parameters.length) = some 1 := by decide +kernel
set_option maxRecDepth 100000 in
theorem ctx_x8_of {cs : Cs} {z : Nat} {kd : Kd} (fr0 lo0 : Nat) (hfr : 0 ≤ fr0) (hlo : 0 ≤ lo0) (P : Ptr) (I : Mem) (a : Nat) (x1 : Nat) (ha : kd a = (7, 0, 0)) (hx1 : kd x1 = (1, 0, 0)) : CtX cs z kd yX8_of cX8_of 2 (some .int) fr0 lo0 [.ref a, .ref x1] (P, I) (fun r => (some (.int r), (P, I))) (x8_of I a x1) := by
  refine CtX.of RX8 (by decide) rfl (Nat.le_of_ble_eq_true rfl) ?_
  intro l D sz p e s m args below meth c hsh K hr hlk hK
  refine g_sub (ls' := [(0, .ref a), (1, .ref x1)]) [0, 1] rfl ?_
  unfold x8_of
  refine g_aloadn K 0 rfl rfl 1 dX8_of_0 rfl ?_
  refine gx_get K hK hsh 0 (v := .int (I a 0)) 4 in_X8 ha rfl (Nat.le_of_ble_eq_true rfl) rfl (by decide) (Or.inl q740) rfl dX8_of_1 rfl ?_
  exact gx_iret K hK hsh hr hlk dX8_of_4 rfl
/-- GingerRents$Known.of(LGingerRents$Asker;)I -/
def x9_of (kd : Kd) (P : Ptr) (I : Mem) (a : Nat) (x1 : Nat) : Option (Int32) :=
  (x1_fact kd P I x1 (I a 0)).bind fun r1 =>
  some r1
theorem wd_x9_of : yX9_of.cls = RX9 ∧ yX9_of.cls ≠ "java/lang/invoke/MethodHandle" ∧ yX9_of.cls ≠ "java/lang/invoke/VarHandle" ∧ (parseMethodDescriptor yX9_of.desc).map (fun d => d.parameters.length) = some 1 := by decide +kernel
set_option maxRecDepth 100000 in
theorem ctx_x9_of {cs : Cs} {z : Nat} {kd : Kd} (fr0 lo0 : Nat) (hfr : 2 ≤ fr0) (hlo : 46 ≤ lo0) (P : Ptr) (I : Mem) (a : Nat) (x1 : Nat) (ha : kd a = (8, 0, 0)) (hx1 : kd x1 = (1, 0, 0)) : CtX cs z kd yX9_of cX9_of 2 (some .int) fr0 lo0 [.ref a, .ref x1] (P, I) (fun r => (some (.int r), (P, I))) (x9_of kd P I a x1) := by
  refine CtX.of RX9 (by decide) rfl (Nat.le_of_ble_eq_true rfl) ?_
  intro l D sz p e s m args below meth c hsh K hr hlk hK
  refine g_sub (ls' := [(0, .ref a), (1, .ref x1)]) [0, 1] rfl ?_
  unfold x9_of
  refine g_aloadn K 1 rfl rfl 1 dX9_of_0 rfl ?_
  refine g_aloadn K 0 rfl rfl 2 dX9_of_1 rfl ?_
  refine gx_get K hK hsh 0 (v := .int (I a 0)) 5 in_X9 ha rfl (Nat.le_of_ble_eq_true rfl) rfl (by decide) (Or.inl q750) rfl dX9_of_2 rfl ?_
  refine gx_callF K hK hsh 10 (ctx_x1_fact P I x1 (I a 0) hx1) (lw_F q1201 q1205 q1207 q152 q1209) hK.2.2.2.2.2.1 wd_fact hx1 rfl (Nat.le_of_ble_eq_true rfl) rfl (by omega) rfl (Nat.le_of_ble_eq_true rfl) dX9_of_5 rfl (fun r1 _ => ?_)
  exact gx_iret K hK hsh hr hlk dX9_of_10 rfl
/-- GingerRents$Joined.of(LGingerRents$Asker;)I -/
def x10_of (f : Ptr → Mem → Nat → Nat → Option Int32) (P : Ptr) (I : Mem) (a : Nat) (x1 : Nat) : Option (Int32) :=
  (P a 0).bind fun b1 =>
  (f P I b1 x1).bind fun r2 =>
  (P a 1).bind fun b3 =>
  (f P I b3 x1).bind fun r4 =>
  nm (I a 2) fun v5 =>
  if v5 = (nI 5) then
  some (r2 &&& r4)
  else
  if v5 = (nI 42) then
  some (r2 * r4)
  else
  if v5 = (nI 43) then
  some (r2 + r4)
  else
  if v5 = (nI 45) then
  some (r2 - r4)
  else
  if v5 = (nI 47) then
  (idivO r2 r4).bind fun v10 =>
  some v10
  else
  if v5 = (nI 60) then
  if r4 ≤ r2 then
  some (nI 0)
  else
  some (nI 1)
  else
  if v5 = (nI 61) then
  if r2 = r4 then
  some (nI 1)
  else
  some (nI 0)
  else
  if v5 = (nI 62) then
  if r2 ≤ r4 then
  some (nI 0)
  else
  some (nI 1)
  else
  some (r2 ||| r4)
theorem wd_x10_of : yX10_of.cls = RX10 ∧ yX10_of.cls ≠ "java/lang/invoke/MethodHandle" ∧ yX10_of.cls ≠ "java/lang/invoke/VarHandle" ∧ (parseMethodDescriptor yX10_of.desc).map (fun d => d.parameters.length) = some 1 := by decide +kernel
set_option maxRecDepth 100000 in
theorem ctx_x10_of {cs : Cs} {z : Nat} {kd : Kd} (fr1 lo1 fr0 lo0 : Nat) (hfr : fr1 + 1 ≤ fr0) (hlo : 23 + lo1 ≤ lo0) (f : Ptr → Mem → Nat → Nat → Option Int32) (HT : CtT cs z kd fr1 lo1 f) (hf : ∀ P I t b r, f P I t b = some r → isTm kd t) (P : Ptr) (I : Mem) (a : Nat) (x1 : Nat) (ha : kd a = (9, 0, 0)) (hx1 : kd x1 = (1, 0, 0)) : CtX cs z kd yX10_of cX10_of 4 (some .int) fr0 lo0 [.ref a, .ref x1] (P, I) (fun r => (some (.int r), (P, I))) (x10_of f P I a x1) := by
  refine CtX.of RX10 (by decide) rfl (Nat.le_of_ble_eq_true rfl) ?_
  intro l D sz p e s m args below meth c hsh K hr hlk hK
  refine g_sub (ls' := [(0, .ref a), (1, .ref x1)]) [0, 1] rfl ?_
  unfold x10_of
  refine g_aloadn K 0 rfl rfl 1 dX10_of_0 rfl ?_
  refine gx_getq K hK hsh 0 4 in_X10 ha rfl (Nat.le_of_ble_eq_true rfl) rfl (by decide) (Or.inl q760) rfl dX10_of_1 rfl (fun b1 => ?_)
  refine g_aloadn K 1 rfl rfl 5 dX10_of_4 rfl ?_
  refine gx_callT K hK hsh 8 HT hf hx1 q1197 (by omega) (Nat.le_of_ble_eq_true rfl) dX10_of_5 rfl (fun r2 _ => ?_)
  refine g_istoren K [(0, .ref a), (1, .ref x1), (2, .int r2)] [1, 2, 0] rfl (by decide) rfl 9 dX10_of_8 rfl ?_
  refine g_aloadn K 0 rfl rfl 10 dX10_of_9 rfl ?_
  refine gx_getq K hK hsh 1 13 in_X10 ha rfl (Nat.le_of_ble_eq_true rfl) rfl (by decide) (Or.inl q761) rfl dX10_of_10 rfl (fun b3 => ?_)
  refine g_aloadn K 1 rfl rfl 14 dX10_of_13 rfl ?_
  refine gx_callT K hK hsh 17 HT hf hx1 q1197 (by omega) (Nat.le_of_ble_eq_true rfl) dX10_of_14 rfl (fun r4 _ => ?_)
  refine g_istoren K [(0, .ref a), (2, .int r2), (3, .int r4)] [1, 3, 0] rfl (by decide) rfl 18 dX10_of_17 rfl ?_
  refine g_aloadn K 0 rfl rfl 19 dX10_of_18 rfl ?_
  refine gx_get K hK hsh 2 (v := .int (I a 2)) 22 in_X10 ha rfl (Nat.le_of_ble_eq_true rfl) rfl (by decide) (Or.inl q762) rfl dX10_of_19 rfl ?_
  refine g_nm (fun v5 _ => ?_)
  refine g_lcase K (nI 5) (off := 123) 145 dX10_of_22 (by decide) (by decide) (by decide) (fun _ => ?_) (fun hx6 => ?_)
  · refine g_iloadn K 1 rfl rfl 146 dX10_of_145 rfl ?_
    refine g_iloadn K 2 rfl rfl 147 dX10_of_146 rfl ?_
    refine g_iand K 148 dX10_of_147 rfl ?_
    exact gx_iret K hK hsh hr hlk dX10_of_148 rfl
  · refine g_lcase K (nI 42) (off := 82) 104 dX10_of_22 (by decide) (by decide) (by decide) (fun _ => ?_) (fun hx7 => ?_)
    · refine g_iloadn K 1 rfl rfl 105 dX10_of_104 rfl ?_
      refine g_iloadn K 2 rfl rfl 106 dX10_of_105 rfl ?_
      refine g_imul K 107 dX10_of_106 rfl ?_
      exact gx_iret K hK hsh hr hlk dX10_of_107 rfl
    · refine g_lcase K (nI 43) (off := 74) 96 dX10_of_22 (by decide) (by decide) (by decide) (fun _ => ?_) (fun hx8 => ?_)
      · refine g_iloadn K 1 rfl rfl 97 dX10_of_96 rfl ?_
        refine g_iloadn K 2 rfl rfl 98 dX10_of_97 rfl ?_
        refine g_iadd K 99 dX10_of_98 rfl ?_
        exact gx_iret K hK hsh hr hlk dX10_of_99 rfl
      · refine g_lcase K (nI 45) (off := 78) 100 dX10_of_22 (by decide) (by decide) (by decide) (fun _ => ?_) (fun hx9 => ?_)
        · refine g_iloadn K 1 rfl rfl 101 dX10_of_100 rfl ?_
          refine g_iloadn K 2 rfl rfl 102 dX10_of_101 rfl ?_
          refine g_isub K 103 dX10_of_102 rfl ?_
          exact gx_iret K hK hsh hr hlk dX10_of_103 rfl
        · refine g_lcase K (nI 47) (off := 86) 108 dX10_of_22 (by decide) (by decide) (by decide) (fun _ => ?_) (fun hx11 => ?_)
          · refine g_iloadn K 1 rfl rfl 109 dX10_of_108 rfl ?_
            refine g_iloadn K 2 rfl rfl 110 dX10_of_109 rfl ?_
            refine g_idiv K 111 dX10_of_110 rfl (fun v10 _ _ => ?_)
            exact gx_iret K hK hsh hr hlk dX10_of_111 rfl
          · refine g_lcase K (nI 60) (off := 90) 112 dX10_of_22 (by decide) (by decide) (by decide) (fun _ => ?_) (fun hx12 => ?_)
            · refine g_iloadn K 1 rfl rfl 113 dX10_of_112 rfl ?_
              refine g_iloadn K 2 rfl rfl 114 dX10_of_113 rfl ?_
              refine g_icmp_ge K 117 121 dX10_of_114 rfl (by decide) (fun _ => ?_) (fun _ => ?_)
              · refine g_iconst K (nI 0) ic_0 122 dX10_of_121 rfl ?_
                exact gx_iret K hK hsh hr hlk dX10_of_122 rfl
              · refine g_iconst K (nI 1) ic_1 118 dX10_of_117 rfl ?_
                refine g_goto K 122 dX10_of_118 (by decide) ?_
                exact gx_iret K hK hsh hr hlk dX10_of_122 rfl
            · refine g_lcase K (nI 61) (off := 101) 123 dX10_of_22 (by decide) (by decide) (by decide) (fun _ => ?_) (fun hx13 => ?_)
              · refine g_iloadn K 1 rfl rfl 124 dX10_of_123 rfl ?_
                refine g_iloadn K 2 rfl rfl 125 dX10_of_124 rfl ?_
                refine g_icmp_ne K 128 132 dX10_of_125 rfl (by decide) (fun _ => ?_) (fun _ => ?_)
                · refine g_iconst K (nI 1) ic_1 129 dX10_of_128 rfl ?_
                  refine g_goto K 133 dX10_of_129 (by decide) ?_
                  exact gx_iret K hK hsh hr hlk dX10_of_133 rfl
                · refine g_iconst K (nI 0) ic_0 133 dX10_of_132 rfl ?_
                  exact gx_iret K hK hsh hr hlk dX10_of_133 rfl
              · refine g_lcase K (nI 62) (off := 112) 134 dX10_of_22 (by decide) (by decide) (by decide) (fun _ => ?_) (fun hx14 => ?_)
                · refine g_iloadn K 1 rfl rfl 135 dX10_of_134 rfl ?_
                  refine g_iloadn K 2 rfl rfl 136 dX10_of_135 rfl ?_
                  refine g_icmp_le K 139 143 dX10_of_136 rfl (by decide) (fun _ => ?_) (fun _ => ?_)
                  · refine g_iconst K (nI 0) ic_0 144 dX10_of_143 rfl ?_
                    exact gx_iret K hK hsh hr hlk dX10_of_144 rfl
                  · refine g_iconst K (nI 1) ic_1 140 dX10_of_139 rfl ?_
                    refine g_goto K 144 dX10_of_140 (by decide) ?_
                    exact gx_iret K hK hsh hr hlk dX10_of_144 rfl
                · refine g_ldef K 149 dX10_of_22 (by decide) (by have e5 := tne (k := 5) (by decide) hx6; have e42 := tne (k := 42) (by decide) hx7; have e43 := tne (k := 43) (by decide) hx8; have e45 := tne (k := 45) (by decide) hx9; have e47 := tne (k := 47) (by decide) hx11; have e60 := tne (k := 60) (by decide) hx12; have e61 := tne (k := 61) (by decide) hx13; have e62 := tne (k := 62) (by decide) hx14; simp [Op.lookupswitch.offset, List.find?]; omega) (by decide) ?_
                  refine g_iloadn K 1 rfl rfl 150 dX10_of_149 rfl ?_
                  refine g_iloadn K 2 rfl rfl 151 dX10_of_150 rfl ?_
                  refine g_ior K 152 dX10_of_151 rfl ?_
                  exact gx_iret K hK hsh hr hlk dX10_of_152 rfl
/-- GingerRents$Not.of(LGingerRents$Asker;)I -/
def x11_of (f : Ptr → Mem → Nat → Nat → Option Int32) (P : Ptr) (I : Mem) (a : Nat) (x1 : Nat) : Option (Int32) :=
  (P a 0).bind fun b1 =>
  (f P I b1 x1).bind fun r2 =>
  some ((nI 1) - r2)
theorem wd_x11_of : yX11_of.cls = RX11 ∧ yX11_of.cls ≠ "java/lang/invoke/MethodHandle" ∧ yX11_of.cls ≠ "java/lang/invoke/VarHandle" ∧ (parseMethodDescriptor yX11_of.desc).map (fun d => d.parameters.length) = some 1 := by decide +kernel
set_option maxRecDepth 100000 in
theorem ctx_x11_of {cs : Cs} {z : Nat} {kd : Kd} (fr1 lo1 fr0 lo0 : Nat) (hfr : fr1 + 1 ≤ fr0) (hlo : 23 + lo1 ≤ lo0) (f : Ptr → Mem → Nat → Nat → Option Int32) (HT : CtT cs z kd fr1 lo1 f) (hf : ∀ P I t b r, f P I t b = some r → isTm kd t) (P : Ptr) (I : Mem) (a : Nat) (x1 : Nat) (ha : kd a = (10, 0, 0)) (hx1 : kd x1 = (1, 0, 0)) : CtX cs z kd yX11_of cX11_of 2 (some .int) fr0 lo0 [.ref a, .ref x1] (P, I) (fun r => (some (.int r), (P, I))) (x11_of f P I a x1) := by
  refine CtX.of RX11 (by decide) rfl (Nat.le_of_ble_eq_true rfl) ?_
  intro l D sz p e s m args below meth c hsh K hr hlk hK
  refine g_sub (ls' := [(0, .ref a), (1, .ref x1)]) [0, 1] rfl ?_
  unfold x11_of
  refine g_iconst K (nI 1) ic_1 1 dX11_of_0 rfl ?_
  refine g_aloadn K 0 rfl rfl 2 dX11_of_1 rfl ?_
  refine gx_getq K hK hsh 0 5 in_X11 ha rfl (Nat.le_of_ble_eq_true rfl) rfl (by decide) (Or.inl q792) rfl dX11_of_2 rfl (fun b1 => ?_)
  refine g_aloadn K 1 rfl rfl 6 dX11_of_5 rfl ?_
  refine gx_callT K hK hsh 9 HT hf hx1 q1213 (by omega) (Nat.le_of_ble_eq_true rfl) dX11_of_6 rfl (fun r2 _ => ?_)
  refine g_isub K 10 dX11_of_9 rfl ?_
  exact gx_iret K hK hsh hr hlk dX11_of_10 rfl
/-- a term's value, so deep at most: t the term, b the borough that is asked -/
def tof : Nat → Kd → Ptr → Mem → Nat → Nat → Option Int32
  | 0, _, _, _, _, _ => none
  | d + 1, kd, P, I, t, b => if kd t = (7, 0, 0) then x8_of I t b else if kd t = (8, 0, 0) then x9_of kd P I t b else if kd t = (9, 0, 0) then x10_of (fun P I t b => tof d kd P I t b) P I t b else if kd t = (10, 0, 0) then x11_of (fun P I t b => tof d kd P I t b) P I t b else none
theorem tof_dom (d : Nat) (kd : Kd) : ∀ P I t b r, tof d kd P I t b = some r → isTm kd t := by
  intro P I t b r h
  cases d with
  | zero => cases h
  | succ d =>
    unfold tof at h
    split at h
    · next h1 => exact Or.inl h1
    · split at h
      · next h1 => exact Or.inr (Or.inl h1)
      · split at h
        · next h1 => exact Or.inr (Or.inr (Or.inl h1))
        · split at h
          · next h1 => exact Or.inr (Or.inr (Or.inr h1))
          · cases h
theorem ctT (cs : Cs) (z : Nat) (kd : Kd) (d : Nat) : CtT cs z kd (2 + d) (46 + d * 25) (fun P I t b => tof d kd P I t b) := by
  induction d with
  | zero => intro P I t b hb; refine ⟨fun _ l D sz hsh out ho => ?_, fun _ l D sz hsh out ho => ?_, fun _ l D sz hsh out ho => ?_, fun _ l D sz hsh out ho => ?_⟩ <;> cases ho
  | succ d ih =>
    intro P I t b hb
    have hne : ∀ {a c : Nat}, a ≠ c → (a, 0, 0) ≠ ((c, 0, 0) : Nat × Nat × Nat) := fun h e => h (congrArg Prod.fst e)
    refine ⟨fun h => ?_, fun h => ?_, fun h => ?_, fun h => ?_⟩ <;> dsimp only
    · rw [show tof (d + 1) kd P I t b = x8_of I t b by unfold tof; rw [if_pos h]]
      exact ctx_x8_of _ _ (Nat.zero_le _) (Nat.zero_le _) P I t b h hb
    · rw [show tof (d + 1) kd P I t b = x9_of kd P I t b by unfold tof; rw [if_neg (by rw [h]; decide), if_pos h]]
      exact ctx_x9_of _ _ (by omega) (by omega) P I t b h hb
    · rw [show tof (d + 1) kd P I t b = x10_of (fun P I t b => tof d kd P I t b) P I t b by rw [tof]; rw [if_neg (by rw [h]; decide), if_neg (by rw [h]; decide), if_pos h]]
      exact ctx_x10_of _ _ _ _ (by omega) (by omega) _ ih (tof_dom d kd) P I t b h hb
    · rw [show tof (d + 1) kd P I t b = x11_of (fun P I t b => tof d kd P I t b) P I t b by rw [tof]; rw [if_neg (by rw [h]; decide), if_neg (by rw [h]; decide), if_neg (by rw [h]; decide), if_pos h]]
      exact ctx_x11_of _ _ _ _ (by omega) (by omega) _ ih (tof_dom d kd) P I t b h hb
def tofD (kd : Kd) (P : Ptr) (I : Mem) (t b : Nat) : Option Int32 := tof 420 kd P I t b
theorem ctTD (cs : Cs) (z : Nat) (kd : Kd) : CtT cs z kd 422 10546 (tofD kd) := ctT cs z kd 420
theorem tofD_dom (kd : Kd) : ∀ P I t b r, tofD kd P I t b = some r → isTm kd t := tof_dom 420 kd
/-- GingerRents$Borough.tells(ILGingerRents$House;III)I -/
def x1_tells (kd : Kd) (P : Ptr) (I : Mem) (a : Nat) (x1 : Int32) (x2 : Nat) (x3 : Int32) (x4 : Int32) (x5 : Int32) : Option (Int32 × Ptr × Mem) :=
  nm (upP P a 24 (some x2)) fun P1 =>
  nm (up2 I a 25 x3) fun I2 =>
  jn (fun (j3 : Unit) =>
  (x0_bound x4 (nI 0) x5).bind fun r6 =>
  some (r6, P1, I2)) (fun k4 =>
  lp (fun again8 (j7 : Int32) =>
  (pk kd (P1 a 10) (18, 0, 0)).bind fun b10 =>
  (j2_size I2 b10).bind fun r12 =>
  if r12 ≤ j7 then
  k4 ()
  else
  (pk kd (P1 a 10) (18, 0, 0)).bind fun b14 =>
  (j2_get kd P1 I2 b14 j7).bind fun r16 =>
  (pk kd (some r16) (11, 0, 0)).bind fun _ =>
  if (I2 r16 0) = x1 then
  if P1 r16 2 = none then
  (P1 r16 1).bind fun b19 =>
  (tofD kd P1 I2 b19 a).bind fun r20 =>
  (x0_bound r20 (nI 0) x5).bind fun r21 =>
  some (r21, P1, I2)
  else
  (P1 r16 2).bind fun b22 =>
  (tofD kd P1 I2 b22 a).bind fun r23 =>
  if r23 = (nI 1) then
  (P1 r16 1).bind fun b24 =>
  (tofD kd P1 I2 b24 a).bind fun r25 =>
  (x0_bound r25 (nI 0) x5).bind fun r26 =>
  some (r26, P1, I2)
  else
  again8 (j7 + (nI 1))
  else
  again8 (j7 + (nI 1))) fuel (nI 0))
theorem wd_x1_tells : yX1_tells.cls = RX1 ∧ yX1_tells.cls ≠ "java/lang/invoke/MethodHandle" ∧ yX1_tells.cls ≠ "java/lang/invoke/VarHandle" ∧ (parseMethodDescriptor yX1_tells.desc).map (fun d => d.parameters.length) = some 5 := by decide +kernel
set_option maxRecDepth 100000 in
theorem ctx_x1_tells {cs : Cs} {z : Nat} {kd : Kd} (P : Ptr) (I : Mem) (a : Nat) (x1 : Int32) (x2 : Nat) (x3 : Int32) (x4 : Int32) (x5 : Int32) (ha : kd a = (1, 0, 0)) (hx2 : kd x2 = (3, 0, 0)) : CtX cs z kd yX1_tells cX1_tells 8 (some .int) 423 10569 [.ref a, .int x1, .ref x2, .int x3, .int x4, .int x5] (P, I) (fun r => (some (.int r.1), (r.2.1, r.2.2))) (x1_tells kd P I a x1 x2 x3 x4 x5) := by
  refine CtX.of RX1 (by decide) rfl (Nat.le_of_ble_eq_true rfl) ?_
  intro l D sz p e s m args below meth c hsh K hr hlk hK
  refine g_sub (ls' := [(0, .ref a), (1, .int x1), (2, .ref x2), (3, .int x3), (4, .int x4), (5, .int x5)]) [0, 1, 2, 3, 4, 5] rfl ?_
  unfold x1_tells
  refine g_aloadn K 0 rfl rfl 1 dX1_tells_0 rfl ?_
  refine g_aloadn K 2 rfl rfl 2 dX1_tells_1 rfl ?_
  refine gx_putp K hK hsh 24 (ty := .object "GingerRents$House") 5 in_X1 tyX1 tyX1_ok nmX1 ha rfl rfl (Nat.le_of_ble_eq_true rfl) rfl (by decide) (Or.inl q348) rfl (by decide +kernel) rfl rfl (Nat.le_of_ble_eq_true rfl) dX1_tells_2 rfl (fun P1 _ => ?_)
  refine g_aloadn K 0 rfl rfl 6 dX1_tells_5 rfl ?_
  refine g_iloadn K 3 rfl rfl 7 dX1_tells_6 rfl ?_
  refine gx_put K hK hsh 25 (ty := .int) 10 in_X1 tyX1 tyX1_ok nmX1 ha rfl rfl (Nat.le_of_ble_eq_true rfl) rfl (by decide) (Or.inl q349) rfl (by decide +kernel) rfl rfl (Nat.le_of_ble_eq_true rfl) dX1_tells_7 rfl (fun I2 _ => ?_)
  refine g_iconst K (nI 0) ic_0 11 dX1_tells_10 rfl ?_
  refine g_istore K [(0, .ref a), (1, .int x1), (4, .int x4), (5, .int x5), (6, .int (nI 0))] [1, 2, 5, 6, 0] (by decide) rfl 13 dX1_tells_11 rfl ?_
  refine g_jn (head := 91) (L := fun j3 => [(0, .ref a), (4, .int x4), (5, .int x5)]) (sf := fun j3 => []) (mf := fun j3 => (P1, I2)) (fun j3 => ?_) (fun k4 h5 => ?_)
  · try dsimp only
    refine g_iload K 1 rfl 93 dX1_tells_91 rfl ?_
    refine g_iconst K (nI 0) ic_0 94 dX1_tells_93 rfl ?_
    refine g_iload K 2 rfl 96 dX1_tells_94 rfl ?_
    refine g_callSN K 99 (cts_x0_bound x4 (nI 0) x5) (nm_q1216 hK.2) q1218 q151 q1217 wds_x0_bound (by decide) rfl (Nat.le_of_ble_eq_true rfl) dX1_tells_96 rfl (fun r6 _ => ?_)
    exact gx_iret K hK hsh hr hlk dX1_tells_99 rfl
  · refine g_lp (head := 13) (L := fun j7 => [(0, .ref a), (1, .int x1), (4, .int x4), (5, .int x5), (6, .int j7)]) (sf := fun j7 => []) (mf := fun j7 => (P1, I2)) (fun again8 h9 j7 => ?_) fuel (nI 0)
    try dsimp only
    refine g_iload K 4 rfl 15 dX1_tells_13 rfl ?_
    refine g_aloadn K 0 rfl rfl 16 dX1_tells_15 rfl ?_
    refine gx_getp K hK hsh 10 (18, 0, 0) 19 in_X1 ha rfl (Nat.le_of_ble_eq_true rfl) rfl (by decide) (Or.inl q317) rfl dX1_tells_16 rfl (fun b10 hb11 => ?_)
    refine gx_call K hK hsh 22 (ctx_j2_size P1 I2 b10 hb11) (lw_V q1103 q712 q713 q156 q714) wd_j2_size hb11 rfl (Nat.le_of_ble_eq_true rfl) rfl (by decide) rfl (Nat.le_of_ble_eq_true rfl) dX1_tells_19 rfl (fun r12 hr13 => ?_)
    refine g_icmp_ge K 25 91 dX1_tells_22 rfl (by decide) (fun _ => ?_) (fun _ => ?_)
    · refine g_sub (ls' := [(0, .ref a), (4, .int x4), (5, .int x5)]) [0, 2, 3] rfl ?_
      exact h5 ()
    · refine g_aloadn K 0 rfl rfl 26 dX1_tells_25 rfl ?_
      refine gx_getp K hK hsh 10 (18, 0, 0) 29 in_X1 ha rfl (Nat.le_of_ble_eq_true rfl) rfl (by decide) (Or.inl q317) rfl dX1_tells_26 rfl (fun b14 hb15 => ?_)
      refine g_iload K 4 rfl 31 dX1_tells_29 rfl ?_
      refine gx_call K hK hsh 34 (ctx_j2_get P1 I2 b14 j7 hb15) (lw_V q1104 q1105 q1106 q156 q1107) wd_j2_get hb15 rfl (Nat.le_of_ble_eq_true rfl) rfl (by decide) rfl (Nat.le_of_ble_eq_true rfl) dX1_tells_31 rfl (fun r16 hr17 => ?_)
      refine gx_ck (fun hb18 => ?_)
      refine gx_cast K hK hsh 37 q1187 (Or.inr rfl) hb18 rfl (Nat.le_of_ble_eq_true rfl) rfl dX1_tells_34 rfl ?_
      refine g_astore K [(0, .ref a), (1, .int x1), (4, .int x4), (5, .int x5), (6, .int j7), (7, .ref r16)] [1, 2, 3, 4, 5, 0] (by decide) rfl 39 dX1_tells_37 rfl ?_
      refine g_aload K 5 rfl 41 dX1_tells_39 rfl ?_
      refine gx_get K hK hsh 0 (v := .int (I2 r16 0)) 44 in_X12 hb18 rfl (Nat.le_of_ble_eq_true rfl) rfl (by decide) (Or.inr (nf_q807 hK.2)) rfl dX1_tells_41 rfl ?_
      refine g_iloadn K 1 rfl rfl 45 dX1_tells_44 rfl ?_
      refine g_icmp_ne K 48 85 dX1_tells_45 rfl (by decide) (fun _ => ?_) (fun _ => ?_)
      · refine g_aload K 5 rfl 50 dX1_tells_48 rfl ?_
        refine gx_ifn K hK hsh 2 53 56 69 in_X12 hb18 rfl (Nat.le_of_ble_eq_true rfl) rfl (by decide) (Or.inr (nf_q811 hK.2)) rfl dX1_tells_50 rfl dX1_tells_53 rfl (by decide) ?_ ?_
        · refine g_aload K 5 rfl 71 dX1_tells_69 rfl ?_
          refine gx_getq K hK hsh 1 74 in_X12 hb18 rfl (Nat.le_of_ble_eq_true rfl) rfl (by decide) (Or.inr (nf_q809 hK.2)) rfl dX1_tells_71 rfl (fun b19 => ?_)
          refine g_aloadn K 0 rfl rfl 75 dX1_tells_74 rfl ?_
          refine gx_callT K hK hsh 78 (ctTD cs z kd) (tofD_dom kd) ha q1188 (by decide) (Nat.le_of_ble_eq_true rfl) dX1_tells_75 rfl (fun r20 _ => ?_)
          refine g_iconst K (nI 0) ic_0 79 dX1_tells_78 rfl ?_
          refine g_iload K 3 rfl 81 dX1_tells_79 rfl ?_
          refine g_callSN K 84 (cts_x0_bound r20 (nI 0) x5) (nm_q1216 hK.2) q1218 q151 q1217 wds_x0_bound (by decide) rfl (Nat.le_of_ble_eq_true rfl) dX1_tells_81 rfl (fun r21 _ => ?_)
          exact gx_iret K hK hsh hr hlk dX1_tells_84 rfl
        · refine g_aload K 5 rfl 58 dX1_tells_56 rfl ?_
          refine gx_getq K hK hsh 2 61 in_X12 hb18 rfl (Nat.le_of_ble_eq_true rfl) rfl (by decide) (Or.inr (nf_q811 hK.2)) rfl dX1_tells_58 rfl (fun b22 => ?_)
          refine g_aloadn K 0 rfl rfl 62 dX1_tells_61 rfl ?_
          refine gx_callT K hK hsh 65 (ctTD cs z kd) (tofD_dom kd) ha q1188 (by decide) (Nat.le_of_ble_eq_true rfl) dX1_tells_62 rfl (fun r23 _ => ?_)
          refine g_iconst K (nI 1) ic_1 66 dX1_tells_65 rfl ?_
          refine g_icmp_ne K 69 85 dX1_tells_66 rfl (by decide) (fun _ => ?_) (fun _ => ?_)
          · refine g_aload K 5 rfl 71 dX1_tells_69 rfl ?_
            refine gx_getq K hK hsh 1 74 in_X12 hb18 rfl (Nat.le_of_ble_eq_true rfl) rfl (by decide) (Or.inr (nf_q809 hK.2)) rfl dX1_tells_71 rfl (fun b24 => ?_)
            refine g_aloadn K 0 rfl rfl 75 dX1_tells_74 rfl ?_
            refine gx_callT K hK hsh 78 (ctTD cs z kd) (tofD_dom kd) ha q1188 (by decide) (Nat.le_of_ble_eq_true rfl) dX1_tells_75 rfl (fun r25 _ => ?_)
            refine g_iconst K (nI 0) ic_0 79 dX1_tells_78 rfl ?_
            refine g_iload K 3 rfl 81 dX1_tells_79 rfl ?_
            refine g_callSN K 84 (cts_x0_bound r25 (nI 0) x5) (nm_q1216 hK.2) q1218 q151 q1217 wds_x0_bound (by decide) rfl (Nat.le_of_ble_eq_true rfl) dX1_tells_81 rfl (fun r26 _ => ?_)
            exact gx_iret K hK hsh hr hlk dX1_tells_84 rfl
          · refine g_iinc K (j7 + (nI 1)) 4 [(0, .ref a), (1, .int x1), (4, .int x4), (5, .int x5), (6, .int (j7 + (nI 1)))] [1, 2, 3, 4, 0] rfl (by rw [ic_1]) (by decide) rfl 88 dX1_tells_85 rfl ?_
            refine g_goto K 13 dX1_tells_88 (by decide) ?_
            exact h9 (j7 + (nI 1))
      · refine g_iinc K (j7 + (nI 1)) 4 [(0, .ref a), (1, .int x1), (4, .int x4), (5, .int x5), (6, .int (j7 + (nI 1)))] [1, 2, 3, 4, 0] rfl (by rw [ic_1]) (by decide) rfl 88 dX1_tells_85 rfl ?_
        refine g_goto K 13 dX1_tells_88 (by decide) ?_
        exact h9 (j7 + (nI 1))
/-- GingerRents$Borough.rent(LGingerRents$House;)I -/
def x1_rent (kd : Kd) (P : Ptr) (I : Mem) (a : Nat) (x1 : Nat) : Option (Int32 × Ptr × Mem) :=
  (x3_thickest I x1).bind fun r1 =>
  (x1_tells kd P I a (nI 7) x1 r1 ((nI 4) + ((nI 2) * (I x1 5))) (nI 99)).bind fun r3 =>
  some (r3.1, r3.2.1, r3.2.2)
theorem wd_x1_rent : yX1_rent.cls = RX1 ∧ yX1_rent.cls ≠ "java/lang/invoke/MethodHandle" ∧ yX1_rent.cls ≠ "java/lang/invoke/VarHandle" ∧ (parseMethodDescriptor yX1_rent.desc).map (fun d => d.parameters.length) = some 1 := by decide +kernel
set_option maxRecDepth 100000 in
theorem ctx_x1_rent {cs : Cs} {z : Nat} {kd : Kd} (P : Ptr) (I : Mem) (a : Nat) (x1 : Nat) (ha : kd a = (1, 0, 0)) (hx1 : kd x1 = (3, 0, 0)) : CtX cs z kd yX1_rent cX1_rent 2 (some .int) 424 10596 [.ref a, .ref x1] (P, I) (fun r => (some (.int r.1), (r.2.1, r.2.2))) (x1_rent kd P I a x1) := by
  refine CtX.of RX1 (by decide) rfl (Nat.le_of_ble_eq_true rfl) ?_
  intro l D sz p e s m args below meth c hsh K hr hlk hK
  refine g_sub (ls' := [(0, .ref a), (1, .ref x1)]) [0, 1] rfl ?_
  unfold x1_rent
  refine g_aloadn K 0 rfl rfl 1 dX1_rent_0 rfl ?_
  refine g_bipush K (nI 7) bp_7 3 dX1_rent_1 rfl ?_
  refine g_aloadn K 1 rfl rfl 4 dX1_rent_3 rfl ?_
  refine g_aloadn K 1 rfl rfl 5 dX1_rent_4 rfl ?_
  refine gx_call K hK hsh 8 (ctx_x3_thickest P I x1 hx1) (lw_V q1053 q1054 q1055 q157 q1056) wd_x3_thickest hx1 rfl (Nat.le_of_ble_eq_true rfl) rfl (by decide) rfl (Nat.le_of_ble_eq_true rfl) dX1_rent_5 rfl (fun r1 hr2 => ?_)
  refine g_iconst K (nI 4) ic_4 9 dX1_rent_8 rfl ?_
  refine g_iconst K (nI 2) ic_2 10 dX1_rent_9 rfl ?_
  refine g_aloadn K 1 rfl rfl 11 dX1_rent_10 rfl ?_
  refine gx_get K hK hsh 5 (v := .int (I x1 5)) 14 in_X3 hx1 rfl (Nat.le_of_ble_eq_true rfl) rfl (by decide) (Or.inr (nf_q269 hK.2)) rfl dX1_rent_11 rfl ?_
  refine g_imul K 15 dX1_rent_14 rfl ?_
  refine g_iadd K 16 dX1_rent_15 rfl ?_
  refine g_bipush K (nI 99) bp_99 18 dX1_rent_16 rfl ?_
  refine gx_call K hK hsh 21 (ctx_x1_tells P I a (nI 7) x1 r1 ((nI 4) + ((nI 2) * (I x1 5))) (nI 99) ha hx1) (lw_V q1183 q1185 qs36 q152 q1186) wd_x1_tells ha rfl (Nat.le_of_ble_eq_true rfl) rfl (by decide) rfl (Nat.le_of_ble_eq_true rfl) dX1_rent_18 rfl (fun r3 hr4 => ?_)
  exact gx_iret K hK hsh hr hlk dX1_rent_21 rfl
/-- GingerRents$Borough.gnaws(LGingerRents$House;I)I -/
def x1_gnaws (kd : Kd) (P : Ptr) (I : Mem) (a : Nat) (x1 : Nat) (x2 : Int32) : Option (Int32 × Ptr × Mem) :=
  (x1_tells kd P I a (nI 8) x1 x2 ((nI 300) - ((nI 30) * (I x1 3))) (nI 1000)).bind fun r1 =>
  some (r1.1, r1.2.1, r1.2.2)
theorem wd_x1_gnaws : yX1_gnaws.cls = RX1 ∧ yX1_gnaws.cls ≠ "java/lang/invoke/MethodHandle" ∧ yX1_gnaws.cls ≠ "java/lang/invoke/VarHandle" ∧ (parseMethodDescriptor yX1_gnaws.desc).map (fun d => d.parameters.length) = some 2 := by decide +kernel
set_option maxRecDepth 100000 in
theorem ctx_x1_gnaws {cs : Cs} {z : Nat} {kd : Kd} (P : Ptr) (I : Mem) (a : Nat) (x1 : Nat) (x2 : Int32) (ha : kd a = (1, 0, 0)) (hx1 : kd x1 = (3, 0, 0)) : CtX cs z kd yX1_gnaws cX1_gnaws 3 (some .int) 424 10596 [.ref a, .ref x1, .int x2] (P, I) (fun r => (some (.int r.1), (r.2.1, r.2.2))) (x1_gnaws kd P I a x1 x2) := by
  refine CtX.of RX1 (by decide) rfl (Nat.le_of_ble_eq_true rfl) ?_
  intro l D sz p e s m args below meth c hsh K hr hlk hK
  refine g_sub (ls' := [(0, .ref a), (1, .ref x1), (2, .int x2)]) [0, 1, 2] rfl ?_
  unfold x1_gnaws
  refine g_aloadn K 0 rfl rfl 1 dX1_gnaws_0 rfl ?_
  refine g_bipush K (nI 8) bp_8 3 dX1_gnaws_1 rfl ?_
  refine g_aloadn K 1 rfl rfl 4 dX1_gnaws_3 rfl ?_
  refine g_iloadn K 2 rfl rfl 5 dX1_gnaws_4 rfl ?_
  refine g_sipush K (nI 300) sp_300 8 dX1_gnaws_5 rfl ?_
  refine g_bipush K (nI 30) bp_30 10 dX1_gnaws_8 rfl ?_
  refine g_aloadn K 1 rfl rfl 11 dX1_gnaws_10 rfl ?_
  refine gx_get K hK hsh 3 (v := .int (I x1 3)) 14 in_X3 hx1 rfl (Nat.le_of_ble_eq_true rfl) rfl (by decide) (Or.inr (nf_q262 hK.2)) rfl dX1_gnaws_11 rfl ?_
  refine g_imul K 15 dX1_gnaws_14 rfl ?_
  refine g_isub K 16 dX1_gnaws_15 rfl ?_
  refine g_sipush K (nI 1000) sp_1000 19 dX1_gnaws_16 rfl ?_
  refine gx_call K hK hsh 22 (ctx_x1_tells P I a (nI 8) x1 x2 ((nI 300) - ((nI 30) * (I x1 3))) (nI 1000) ha hx1) (lw_V q1183 q1185 qs36 q152 q1186) wd_x1_tells ha rfl (Nat.le_of_ble_eq_true rfl) rfl (by decide) rfl (Nat.le_of_ble_eq_true rfl) dX1_gnaws_19 rfl (fun r1 hr2 => ?_)
  exact gx_iret K hK hsh hr hlk dX1_gnaws_22 rfl
/-- GingerRents$Borough.melts(LGingerRents$House;I)I -/
def x1_melts (kd : Kd) (P : Ptr) (I : Mem) (a : Nat) (x1 : Nat) (x2 : Int32) : Option (Int32 × Ptr × Mem) :=
  (x1_tells kd P I a (nI 9) x1 x2 ((I a 15) - (I x1 3)) (nI 99)).bind fun r1 =>
  some (r1.1, r1.2.1, r1.2.2)
theorem wd_x1_melts : yX1_melts.cls = RX1 ∧ yX1_melts.cls ≠ "java/lang/invoke/MethodHandle" ∧ yX1_melts.cls ≠ "java/lang/invoke/VarHandle" ∧ (parseMethodDescriptor yX1_melts.desc).map (fun d => d.parameters.length) = some 2 := by decide +kernel
set_option maxRecDepth 100000 in
theorem ctx_x1_melts {cs : Cs} {z : Nat} {kd : Kd} (P : Ptr) (I : Mem) (a : Nat) (x1 : Nat) (x2 : Int32) (ha : kd a = (1, 0, 0)) (hx1 : kd x1 = (3, 0, 0)) : CtX cs z kd yX1_melts cX1_melts 3 (some .int) 424 10596 [.ref a, .ref x1, .int x2] (P, I) (fun r => (some (.int r.1), (r.2.1, r.2.2))) (x1_melts kd P I a x1 x2) := by
  refine CtX.of RX1 (by decide) rfl (Nat.le_of_ble_eq_true rfl) ?_
  intro l D sz p e s m args below meth c hsh K hr hlk hK
  refine g_sub (ls' := [(0, .ref a), (1, .ref x1), (2, .int x2)]) [0, 1, 2] rfl ?_
  unfold x1_melts
  refine g_aloadn K 0 rfl rfl 1 dX1_melts_0 rfl ?_
  refine g_bipush K (nI 9) bp_9 3 dX1_melts_1 rfl ?_
  refine g_aloadn K 1 rfl rfl 4 dX1_melts_3 rfl ?_
  refine g_iloadn K 2 rfl rfl 5 dX1_melts_4 rfl ?_
  refine g_aloadn K 0 rfl rfl 6 dX1_melts_5 rfl ?_
  refine gx_get K hK hsh 15 (v := .int (I a 15)) 9 in_X1 ha rfl (Nat.le_of_ble_eq_true rfl) rfl (by decide) (Or.inl q329) rfl dX1_melts_6 rfl ?_
  refine g_aloadn K 1 rfl rfl 10 dX1_melts_9 rfl ?_
  refine gx_get K hK hsh 3 (v := .int (I x1 3)) 13 in_X3 hx1 rfl (Nat.le_of_ble_eq_true rfl) rfl (by decide) (Or.inr (nf_q262 hK.2)) rfl dX1_melts_10 rfl ?_
  refine g_isub K 14 dX1_melts_13 rfl ?_
  refine g_bipush K (nI 99) bp_99 16 dX1_melts_14 rfl ?_
  refine gx_call K hK hsh 19 (ctx_x1_tells P I a (nI 9) x1 x2 ((I a 15) - (I x1 3)) (nI 99) ha hx1) (lw_V q1183 q1185 qs36 q152 q1186) wd_x1_tells ha rfl (Nat.le_of_ble_eq_true rfl) rfl (by decide) rfl (Nat.le_of_ble_eq_true rfl) dX1_melts_16 rfl (fun r1 hr2 => ?_)
  exact gx_iret K hK hsh hr hlk dX1_melts_19 rfl
/-- GingerRents$Borough.pays(I)V -/
def x1_pays (kd : Kd) (P : Ptr) (I : Mem) (a : Nat) (x1 : Int32) : Option (Ptr × Mem) :=
  (ix 12 x1).bind fun i1 =>
  (x1_rent kd P I a (a + 245 + 2 * i1)).bind fun r3 =>
  jn (fun (j5 : Int32 × Mem) =>
  nm (up2 j5.2 a 17 ((j5.2 a 17) + j5.1)) fun I8 =>
  nm (up2 I8 (a + 245 + 2 * i1) 4 ((I8 (a + 245 + 2 * i1) 4) + (r3.1 - j5.1))) fun I9 =>
  (x1_counts I9 a (nI 0) x1 j5.1).bind fun r10 =>
  (x1_counts r10 a (nI 1) x1 (r3.1 - j5.1)).bind fun r12 =>
  (x1_leaves kd r3.2.1 r12 a x1).bind fun r14 =>
  some (r3.2.1, r14)) (fun k6 =>
  lp (fun again17 (j16 : Int32 × Mem) =>
  if r3.1 ≤ j16.1 then
  k6 (j16.1, j16.2)
  else
  (x3_stands j16.2 (a + 245 + 2 * i1)).bind fun r19 =>
  if (bI r19) = 0 then
  k6 (j16.1, j16.2)
  else
  (x3_thickest j16.2 (a + 245 + 2 * i1)).bind fun r21 =>
  (x3_loses j16.2 (a + 245 + 2 * i1) r21 (nI 1)).bind fun r23 =>
  again17 ((j16.1 + r23.1), r23.2)) fuel ((nI 0), r3.2.2))
theorem wd_x1_pays : yX1_pays.cls = RX1 ∧ yX1_pays.cls ≠ "java/lang/invoke/MethodHandle" ∧ yX1_pays.cls ≠ "java/lang/invoke/VarHandle" ∧ (parseMethodDescriptor yX1_pays.desc).map (fun d => d.parameters.length) = some 1 := by decide +kernel
set_option maxRecDepth 100000 in
theorem ctx_x1_pays {cs : Cs} {z : Nat} {kd : Kd} (P : Ptr) (I : Mem) (a : Nat) (x1 : Int32) (ha : kd a = (1, 0, 0)) : CtX cs z kd yX1_pays cX1_pays 5 none 425 10617 [.ref a, .int x1] (P, I) (fun r => (none, (r.1, r.2))) (x1_pays kd P I a x1) := by
  refine CtX.of RX1 (by decide) rfl (Nat.le_of_ble_eq_true rfl) ?_
  intro l D sz p e s m args below meth c hsh K hr hlk hK
  refine g_sub (ls' := [(0, .ref a), (1, .int x1)]) [0, 1] rfl ?_
  unfold x1_pays
  refine g_aloadn K 0 rfl rfl 1 dX1_pays_0 rfl ?_
  refine gx_get K hK hsh 0 (v := .ref (a + 1)) 4 in_X1 ha rfl (Nat.le_of_ble_eq_true rfl) rfl (by decide) (Or.inl q294) rfl dX1_pays_1 rfl ?_
  refine g_iloadn K 1 rfl rfl 5 dX1_pays_4 rfl ?_
  refine gx_hal K hK hsh 6 (sh_1_house hsh ha) dX1_pays_5 rfl (fun i1 hi2 => ?_)
  refine g_astoren K [(0, .ref a), (1, .int x1), (2, .ref (a + 245 + 2 * i1))] [1, 2, 0] rfl (by decide) rfl 7 dX1_pays_6 rfl ?_
  refine g_aloadn K 0 rfl rfl 8 dX1_pays_7 rfl ?_
  refine g_aloadn K 2 rfl rfl 9 dX1_pays_8 rfl ?_
  refine gx_call K hK hsh 12 (ctx_x1_rent P I a (a + 245 + 2 * i1) ha (sh_23 hsh (sh_1_house hsh ha) hi2)) (lw_V q1179 q1180 q1181 q152 q1182) wd_x1_rent ha rfl (Nat.le_of_ble_eq_true rfl) rfl (by decide) rfl (Nat.le_of_ble_eq_true rfl) dX1_pays_9 rfl (fun r3 hr4 => ?_)
  refine g_istoren K [(0, .ref a), (1, .int x1), (2, .ref (a + 245 + 2 * i1)), (3, .int r3.1)] [1, 2, 3, 0] rfl (by decide) rfl 13 dX1_pays_12 rfl ?_
  refine g_iconst K (nI 0) ic_0 14 dX1_pays_13 rfl ?_
  refine g_istore K [(0, .ref a), (1, .int x1), (2, .ref (a + 245 + 2 * i1)), (3, .int r3.1), (4, .int (nI 0))] [1, 2, 3, 4, 0] (by decide) rfl 16 dX1_pays_14 rfl ?_
  refine g_jn (head := 46) (L := fun j5 => [(0, .ref a), (1, .int x1), (2, .ref (a + 245 + 2 * i1)), (3, .int r3.1), (4, .int j5.1)]) (sf := fun j5 => []) (mf := fun j5 => (r3.2.1, j5.2)) (fun j5 => ?_) (fun k6 h7 => ?_)
  · try dsimp only
    refine g_aloadn K 0 rfl rfl 47 dX1_pays_46 rfl ?_
    refine g_dup K rfl 48 dX1_pays_47 rfl ?_
    refine gx_get K hK hsh 17 (v := .int (j5.2 a 17)) 51 in_X1 ha rfl (Nat.le_of_ble_eq_true rfl) rfl (by decide) (Or.inl q334) rfl dX1_pays_48 rfl ?_
    refine g_iload K 4 rfl 53 dX1_pays_51 rfl ?_
    refine g_iadd K 54 dX1_pays_53 rfl ?_
    refine gx_put K hK hsh 17 (ty := .int) 57 in_X1 tyX1 tyX1_ok nmX1 ha rfl rfl (Nat.le_of_ble_eq_true rfl) rfl (by decide) (Or.inl q334) rfl (by decide +kernel) rfl rfl (Nat.le_of_ble_eq_true rfl) dX1_pays_54 rfl (fun I8 _ => ?_)
    refine g_aloadn K 2 rfl rfl 58 dX1_pays_57 rfl ?_
    refine g_dup K rfl 59 dX1_pays_58 rfl ?_
    refine gx_get K hK hsh 4 (v := .int (I8 (a + 245 + 2 * i1) 4)) 62 in_X3 (sh_23 hsh (sh_1_house hsh ha) hi2) rfl (Nat.le_of_ble_eq_true rfl) rfl (by decide) (Or.inr (nf_q266 hK.2)) rfl dX1_pays_59 rfl ?_
    refine g_iloadn K 3 rfl rfl 63 dX1_pays_62 rfl ?_
    refine g_iload K 4 rfl 65 dX1_pays_63 rfl ?_
    refine g_isub K 66 dX1_pays_65 rfl ?_
    refine g_iadd K 67 dX1_pays_66 rfl ?_
    refine gx_put K hK hsh 4 (ty := .int) 70 in_X3 tyX3 tyX3_ok nmX3 (sh_23 hsh (sh_1_house hsh ha) hi2) rfl rfl (Nat.le_of_ble_eq_true rfl) rfl (by decide) (Or.inr (nf_q266 hK.2)) rfl (by decide +kernel) rfl rfl (Nat.le_of_ble_eq_true rfl) dX1_pays_67 rfl (fun I9 _ => ?_)
    refine g_aloadn K 0 rfl rfl 71 dX1_pays_70 rfl ?_
    refine g_iconst K (nI 0) ic_0 72 dX1_pays_71 rfl ?_
    refine g_iloadn K 1 rfl rfl 73 dX1_pays_72 rfl ?_
    refine g_iload K 4 rfl 75 dX1_pays_73 rfl ?_
    refine gx_call K hK hsh 78 (ctx_x1_counts r3.2.1 I9 a (nI 0) x1 j5.1 ha) (lw_V q1221 q1223 qs37 q152 q1224) wd_x1_counts ha rfl (Nat.le_of_ble_eq_true rfl) rfl (by decide) rfl (Nat.le_of_ble_eq_true rfl) dX1_pays_75 rfl (fun r10 hr11 => ?_)
    refine g_aloadn K 0 rfl rfl 79 dX1_pays_78 rfl ?_
    refine g_iconst K (nI 1) ic_1 80 dX1_pays_79 rfl ?_
    refine g_iloadn K 1 rfl rfl 81 dX1_pays_80 rfl ?_
    refine g_iloadn K 3 rfl rfl 82 dX1_pays_81 rfl ?_
    refine g_iload K 4 rfl 84 dX1_pays_82 rfl ?_
    refine g_isub K 85 dX1_pays_84 rfl ?_
    refine gx_call K hK hsh 88 (ctx_x1_counts r3.2.1 r10 a (nI 1) x1 (r3.1 - j5.1) ha) (lw_V q1221 q1223 qs37 q152 q1224) wd_x1_counts ha rfl (Nat.le_of_ble_eq_true rfl) rfl (by decide) rfl (Nat.le_of_ble_eq_true rfl) dX1_pays_85 rfl (fun r12 hr13 => ?_)
    refine g_aloadn K 0 rfl rfl 89 dX1_pays_88 rfl ?_
    refine g_iloadn K 1 rfl rfl 90 dX1_pays_89 rfl ?_
    refine gx_call K hK hsh 93 (ctx_x1_leaves r3.2.1 r12 a x1 ha) (lw_V q1066 q1067 q1068 q152 q1069) wd_x1_leaves ha rfl (Nat.le_of_ble_eq_true rfl) rfl (by decide) rfl (Nat.le_of_ble_eq_true rfl) dX1_pays_90 rfl (fun r14 hr15 => ?_)
    exact gx_vret K hK hsh hr hlk dX1_pays_93 rfl
  · refine g_lp (head := 16) (L := fun j16 => [(0, .ref a), (1, .int x1), (2, .ref (a + 245 + 2 * i1)), (3, .int r3.1), (4, .int j16.1)]) (sf := fun j16 => []) (mf := fun j16 => (r3.2.1, j16.2)) (fun again17 h18 j16 => ?_) fuel ((nI 0), r3.2.2)
    try dsimp only
    refine g_iload K 4 rfl 18 dX1_pays_16 rfl ?_
    refine g_iloadn K 3 rfl rfl 19 dX1_pays_18 rfl ?_
    refine g_icmp_ge K 22 46 dX1_pays_19 rfl (by decide) (fun _ => ?_) (fun _ => ?_)
    · exact h7 (j16.1, j16.2)
    · refine g_aloadn K 2 rfl rfl 23 dX1_pays_22 rfl ?_
      refine gx_call K hK hsh 26 (ctx_x3_stands r3.2.1 j16.2 (a + 245 + 2 * i1) (sh_23 hsh (sh_1_house hsh ha) hi2)) (lw_V q1036 q1037 q1038 q157 q1039) wd_x3_stands (sh_23 hsh (sh_1_house hsh ha) hi2) rfl (Nat.le_of_ble_eq_true rfl) rfl (by decide) rfl (Nat.le_of_ble_eq_true rfl) dX1_pays_23 rfl (fun r19 hr20 => ?_)
      refine g_if_eq K 29 46 dX1_pays_26 rfl (by decide) (fun _ => ?_) (fun _ => ?_)
      · exact h7 (j16.1, j16.2)
      · refine g_iload K 4 rfl 31 dX1_pays_29 rfl ?_
        refine g_aloadn K 2 rfl rfl 32 dX1_pays_31 rfl ?_
        refine g_aloadn K 2 rfl rfl 33 dX1_pays_32 rfl ?_
        refine gx_call K hK hsh 36 (ctx_x3_thickest r3.2.1 j16.2 (a + 245 + 2 * i1) (sh_23 hsh (sh_1_house hsh ha) hi2)) (lw_V q1053 q1054 q1055 q157 q1056) wd_x3_thickest (sh_23 hsh (sh_1_house hsh ha) hi2) rfl (Nat.le_of_ble_eq_true rfl) rfl (by decide) rfl (Nat.le_of_ble_eq_true rfl) dX1_pays_33 rfl (fun r21 hr22 => ?_)
        refine g_iconst K (nI 1) ic_1 37 dX1_pays_36 rfl ?_
        refine gx_call K hK hsh 40 (ctx_x3_loses r3.2.1 j16.2 (a + 245 + 2 * i1) r21 (nI 1) (sh_23 hsh (sh_1_house hsh ha) hi2)) (lw_V q1057 q1058 q1059 q157 q1060) wd_x3_loses (sh_23 hsh (sh_1_house hsh ha) hi2) rfl (Nat.le_of_ble_eq_true rfl) rfl (by decide) rfl (Nat.le_of_ble_eq_true rfl) dX1_pays_37 rfl (fun r23 hr24 => ?_)
        refine g_iadd K 41 dX1_pays_40 rfl ?_
        refine g_istore K [(0, .ref a), (1, .int x1), (2, .ref (a + 245 + 2 * i1)), (3, .int r3.1), (4, .int (j16.1 + r23.1))] [1, 2, 3, 4, 0] (by decide) rfl 43 dX1_pays_41 rfl ?_
        refine g_goto K 16 dX1_pays_43 (by decide) ?_
        exact h18 ((j16.1 + r23.1), r23.2)
/-- GingerRents$Borough.isGnawed(I)V -/
def x1_isGnawed (kd : Kd) (P : Ptr) (I : Mem) (a : Nat) (x1 : Int32) : Option (Ptr × Mem) :=
  (ix 12 x1).bind fun i1 =>
  jn (fun (j3 : Int32 × Ptr × Mem) =>
  nm (up2 j3.2.2 a 18 ((j3.2.2 a 18) + j3.1)) fun I6 =>
  (x1_counts I6 a (nI 2) x1 j3.1).bind fun r7 =>
  some (j3.2.1, r7)) (fun k4 =>
  lp (fun again10 (j9 : Int32 × Int32 × Ptr × Mem) =>
  if (nI 4) ≤ j9.2.1 then
  k4 (j9.1, j9.2.2.1, j9.2.2.2)
  else
  (rd j9.2.2.2 (a + 245 + 2 * i1 + 1) 4 j9.2.1).bind fun v12 =>
  jn (fun (j13 : Int32 × Ptr × Mem) =>
  if j13.1 ≤ 0 then
  again10 (j9.1, (j9.2.1 + (nI 1)), j13.2.1, j13.2.2)
  else
  jn (fun (j16 : Mem) =>
  (x3_loses j16 (a + 245 + 2 * i1) j9.2.1 (nI 1)).bind fun r19 =>
  again10 ((j9.1 + r19.1), (j9.2.1 + (nI 1)), j13.2.1, r19.2)) (fun k17 =>
  if (j13.2.2 a 23) = 0 then
  (x1_draw j13.2.2 a (nI 1000)).bind fun r21 =>
  if j13.1 ≤ r21.1 then
  again10 (j9.1, (j9.2.1 + (nI 1)), j13.2.1, r21.2)
  else
  k17 r21.2
  else
  if j13.1 < (nI 500) then
  again10 (j9.1, (j9.2.1 + (nI 1)), j13.2.1, j13.2.2)
  else
  k17 j13.2.2)) (fun k14 =>
  if v12 = 0 then
  k14 ((nI 0), j9.2.2.1, j9.2.2.2)
  else
  (x1_gnaws kd j9.2.2.1 j9.2.2.2 a (a + 245 + 2 * i1) j9.2.1).bind fun r23 =>
  k14 (r23.1, r23.2.1, r23.2.2))) fuel ((nI 0), (nI 0), P, I))
theorem wd_x1_isGnawed : yX1_isGnawed.cls = RX1 ∧ yX1_isGnawed.cls ≠ "java/lang/invoke/MethodHandle" ∧ yX1_isGnawed.cls ≠ "java/lang/invoke/VarHandle" ∧ (parseMethodDescriptor yX1_isGnawed.desc).map (fun d => d.parameters.length) = some 1 := by decide +kernel
set_option maxRecDepth 100000 in
theorem ctx_x1_isGnawed {cs : Cs} {z : Nat} {kd : Kd} (P : Ptr) (I : Mem) (a : Nat) (x1 : Int32) (ha : kd a = (1, 0, 0)) : CtX cs z kd yX1_isGnawed cX1_isGnawed 6 none 425 10618 [.ref a, .int x1] (P, I) (fun r => (none, (r.1, r.2))) (x1_isGnawed kd P I a x1) := by
  refine CtX.of RX1 (by decide) rfl (Nat.le_of_ble_eq_true rfl) ?_
  intro l D sz p e s m args below meth c hsh K hr hlk hK
  refine g_sub (ls' := [(0, .ref a), (1, .int x1)]) [0, 1] rfl ?_
  unfold x1_isGnawed
  refine g_aloadn K 0 rfl rfl 1 dX1_isGnawed_0 rfl ?_
  refine gx_get K hK hsh 0 (v := .ref (a + 1)) 4 in_X1 ha rfl (Nat.le_of_ble_eq_true rfl) rfl (by decide) (Or.inl q294) rfl dX1_isGnawed_1 rfl ?_
  refine g_iloadn K 1 rfl rfl 5 dX1_isGnawed_4 rfl ?_
  refine gx_hal K hK hsh 6 (sh_1_house hsh ha) dX1_isGnawed_5 rfl (fun i1 hi2 => ?_)
  refine g_astoren K [(0, .ref a), (1, .int x1), (2, .ref (a + 245 + 2 * i1))] [1, 2, 0] rfl (by decide) rfl 7 dX1_isGnawed_6 rfl ?_
  refine g_iconst K (nI 0) ic_0 8 dX1_isGnawed_7 rfl ?_
  refine g_istoren K [(0, .ref a), (1, .int x1), (2, .ref (a + 245 + 2 * i1)), (3, .int (nI 0))] [1, 2, 3, 0] rfl (by decide) rfl 9 dX1_isGnawed_8 rfl ?_
  refine g_iconst K (nI 0) ic_0 10 dX1_isGnawed_9 rfl ?_
  refine g_istore K [(0, .ref a), (1, .int x1), (2, .ref (a + 245 + 2 * i1)), (3, .int (nI 0)), (4, .int (nI 0))] [1, 2, 3, 4, 0] (by decide) rfl 12 dX1_isGnawed_10 rfl ?_
  refine g_jn (head := 92) (L := fun j3 => [(0, .ref a), (1, .int x1), (3, .int j3.1)]) (sf := fun j3 => []) (mf := fun j3 => (j3.2.1, j3.2.2)) (fun j3 => ?_) (fun k4 h5 => ?_)
  · try dsimp only
    refine g_aloadn K 0 rfl rfl 93 dX1_isGnawed_92 rfl ?_
    refine g_dup K rfl 94 dX1_isGnawed_93 rfl ?_
    refine gx_get K hK hsh 18 (v := .int (j3.2.2 a 18)) 97 in_X1 ha rfl (Nat.le_of_ble_eq_true rfl) rfl (by decide) (Or.inl q336) rfl dX1_isGnawed_94 rfl ?_
    refine g_iloadn K 2 rfl rfl 98 dX1_isGnawed_97 rfl ?_
    refine g_iadd K 99 dX1_isGnawed_98 rfl ?_
    refine gx_put K hK hsh 18 (ty := .int) 102 in_X1 tyX1 tyX1_ok nmX1 ha rfl rfl (Nat.le_of_ble_eq_true rfl) rfl (by decide) (Or.inl q336) rfl (by decide +kernel) rfl rfl (Nat.le_of_ble_eq_true rfl) dX1_isGnawed_99 rfl (fun I6 _ => ?_)
    refine g_aloadn K 0 rfl rfl 103 dX1_isGnawed_102 rfl ?_
    refine g_iconst K (nI 2) ic_2 104 dX1_isGnawed_103 rfl ?_
    refine g_iloadn K 1 rfl rfl 105 dX1_isGnawed_104 rfl ?_
    refine g_iloadn K 2 rfl rfl 106 dX1_isGnawed_105 rfl ?_
    refine gx_call K hK hsh 109 (ctx_x1_counts j3.2.1 I6 a (nI 2) x1 j3.1 ha) (lw_V q1221 q1223 qs37 q152 q1224) wd_x1_counts ha rfl (Nat.le_of_ble_eq_true rfl) rfl (by decide) rfl (Nat.le_of_ble_eq_true rfl) dX1_isGnawed_106 rfl (fun r7 hr8 => ?_)
    exact gx_vret K hK hsh hr hlk dX1_isGnawed_109 rfl
  · refine g_lp (head := 12) (L := fun j9 => [(0, .ref a), (1, .int x1), (2, .ref (a + 245 + 2 * i1)), (3, .int j9.1), (4, .int j9.2.1)]) (sf := fun j9 => []) (mf := fun j9 => (j9.2.2.1, j9.2.2.2)) (fun again10 h11 j9 => ?_) fuel ((nI 0), (nI 0), P, I)
    try dsimp only
    refine g_iload K 4 rfl 14 dX1_isGnawed_12 rfl ?_
    refine g_iconst K (nI 4) ic_4 15 dX1_isGnawed_14 rfl ?_
    refine g_icmp_ge K 18 92 dX1_isGnawed_15 rfl (by decide) (fun _ => ?_) (fun _ => ?_)
    · refine g_sub (ls' := [(0, .ref a), (1, .int x1), (3, .int j9.1)]) [0, 1, 3] rfl ?_
      exact h5 (j9.1, j9.2.2.1, j9.2.2.2)
    · refine g_aloadn K 2 rfl rfl 19 dX1_isGnawed_18 rfl ?_
      refine gx_get K hK hsh 0 (v := .ref (a + 245 + 2 * i1 + 1)) 22 in_X3 (sh_23 hsh (sh_1_house hsh ha) hi2) rfl (Nat.le_of_ble_eq_true rfl) rfl (by decide) (Or.inr (nf_q253 hK.2)) rfl dX1_isGnawed_19 rfl ?_
      refine g_iload K 4 rfl 24 dX1_isGnawed_22 rfl ?_
      refine gx_ald K hK hsh 25 (sh_3_wall hsh (sh_23 hsh (sh_1_house hsh ha) hi2)) dX1_isGnawed_24 rfl (fun v12 => ?_)
      refine g_jn (head := 39) (L := fun j13 => [(0, .ref a), (1, .int x1), (2, .ref (a + 245 + 2 * i1)), (3, .int j9.1), (4, .int j9.2.1)]) (sf := fun j13 => [.int j13.1]) (mf := fun j13 => (j13.2.1, j13.2.2)) (fun j13 => ?_) (fun k14 h15 => ?_)
      · try dsimp only
        refine g_istore K [(0, .ref a), (1, .int x1), (2, .ref (a + 245 + 2 * i1)), (3, .int j9.1), (4, .int j9.2.1), (5, .int j13.1)] [1, 2, 3, 4, 5, 0] (by decide) rfl 41 dX1_isGnawed_39 rfl ?_
        refine g_iload K 5 rfl 43 dX1_isGnawed_41 rfl ?_
        refine g_if_le K 46 86 dX1_isGnawed_43 rfl (by decide) (fun _ => ?_) (fun _ => ?_)
        · refine g_iinc K (j9.2.1 + (nI 1)) 4 [(0, .ref a), (1, .int x1), (2, .ref (a + 245 + 2 * i1)), (3, .int j9.1), (4, .int (j9.2.1 + (nI 1)))] [1, 2, 3, 4, 0] rfl (by rw [ic_1]) (by decide) rfl 89 dX1_isGnawed_86 rfl ?_
          refine g_goto K 12 dX1_isGnawed_89 (by decide) ?_
          exact h11 (j9.1, (j9.2.1 + (nI 1)), j13.2.1, j13.2.2)
        · refine g_aloadn K 0 rfl rfl 47 dX1_isGnawed_46 rfl ?_
          refine gx_get K hK hsh 23 (v := .int (j13.2.2 a 23)) 50 in_X1 ha rfl (Nat.le_of_ble_eq_true rfl) rfl (by decide) (Or.inl q347) rfl dX1_isGnawed_47 rfl ?_
          refine g_jn (head := 76) (L := fun j16 => [(0, .ref a), (1, .int x1), (2, .ref (a + 245 + 2 * i1)), (3, .int j9.1), (4, .int j9.2.1)]) (sf := fun j16 => []) (mf := fun j16 => (j13.2.1, j16)) (fun j16 => ?_) (fun k17 h18 => ?_)
          · try dsimp only
            refine g_iloadn K 3 rfl rfl 77 dX1_isGnawed_76 rfl ?_
            refine g_aloadn K 2 rfl rfl 78 dX1_isGnawed_77 rfl ?_
            refine g_iload K 4 rfl 80 dX1_isGnawed_78 rfl ?_
            refine g_iconst K (nI 1) ic_1 81 dX1_isGnawed_80 rfl ?_
            refine gx_call K hK hsh 84 (ctx_x3_loses j13.2.1 j16 (a + 245 + 2 * i1) j9.2.1 (nI 1) (sh_23 hsh (sh_1_house hsh ha) hi2)) (lw_V q1057 q1058 q1059 q157 q1060) wd_x3_loses (sh_23 hsh (sh_1_house hsh ha) hi2) rfl (Nat.le_of_ble_eq_true rfl) rfl (by decide) rfl (Nat.le_of_ble_eq_true rfl) dX1_isGnawed_81 rfl (fun r19 hr20 => ?_)
            refine g_iadd K 85 dX1_isGnawed_84 rfl ?_
            refine g_istoren K [(0, .ref a), (1, .int x1), (2, .ref (a + 245 + 2 * i1)), (3, .int (j9.1 + r19.1)), (4, .int j9.2.1)] [1, 2, 3, 0, 4] rfl (by decide) rfl 86 dX1_isGnawed_85 rfl ?_
            refine g_iinc K (j9.2.1 + (nI 1)) 4 [(0, .ref a), (1, .int x1), (2, .ref (a + 245 + 2 * i1)), (3, .int (j9.1 + r19.1)), (4, .int (j9.2.1 + (nI 1)))] [1, 2, 3, 4, 0] rfl (by rw [ic_1]) (by decide) rfl 89 dX1_isGnawed_86 rfl ?_
            refine g_goto K 12 dX1_isGnawed_89 (by decide) ?_
            exact h11 ((j9.1 + r19.1), (j9.2.1 + (nI 1)), j13.2.1, r19.2)
          · refine g_if_eq K 53 64 dX1_isGnawed_50 rfl (by decide) (fun _ => ?_) (fun _ => ?_)
            · refine g_aloadn K 0 rfl rfl 65 dX1_isGnawed_64 rfl ?_
              refine g_sipush K (nI 1000) sp_1000 68 dX1_isGnawed_65 rfl ?_
              refine gx_call K hK hsh 71 (ctx_x1_draw j13.2.1 j13.2.2 a (nI 1000) ha) (lw_V q1233 q1234 q1235 q152 q1236) wd_x1_draw ha rfl (Nat.le_of_ble_eq_true rfl) rfl (by decide) rfl (Nat.le_of_ble_eq_true rfl) dX1_isGnawed_68 rfl (fun r21 hr22 => ?_)
              refine g_iload K 5 rfl 73 dX1_isGnawed_71 rfl ?_
              refine g_icmp_ge K 76 86 dX1_isGnawed_73 rfl (by decide) (fun _ => ?_) (fun _ => ?_)
              · refine g_iinc K (j9.2.1 + (nI 1)) 4 [(0, .ref a), (1, .int x1), (2, .ref (a + 245 + 2 * i1)), (3, .int j9.1), (4, .int (j9.2.1 + (nI 1)))] [1, 2, 3, 4, 0] rfl (by rw [ic_1]) (by decide) rfl 89 dX1_isGnawed_86 rfl ?_
                refine g_goto K 12 dX1_isGnawed_89 (by decide) ?_
                exact h11 (j9.1, (j9.2.1 + (nI 1)), j13.2.1, r21.2)
              · refine g_sub (ls' := [(0, .ref a), (1, .int x1), (2, .ref (a + 245 + 2 * i1)), (3, .int j9.1), (4, .int j9.2.1)]) [0, 1, 2, 3, 4] rfl ?_
                exact h18 r21.2
            · refine g_iload K 5 rfl 55 dX1_isGnawed_53 rfl ?_
              refine g_sipush K (nI 500) sp_500 58 dX1_isGnawed_55 rfl ?_
              refine g_icmp_lt K 61 86 dX1_isGnawed_58 rfl (by decide) (fun _ => ?_) (fun _ => ?_)
              · refine g_iinc K (j9.2.1 + (nI 1)) 4 [(0, .ref a), (1, .int x1), (2, .ref (a + 245 + 2 * i1)), (3, .int j9.1), (4, .int (j9.2.1 + (nI 1)))] [1, 2, 3, 4, 0] rfl (by rw [ic_1]) (by decide) rfl 89 dX1_isGnawed_86 rfl ?_
                refine g_goto K 12 dX1_isGnawed_89 (by decide) ?_
                exact h11 (j9.1, (j9.2.1 + (nI 1)), j13.2.1, j13.2.2)
              · refine g_goto K 76 dX1_isGnawed_61 (by decide) ?_
                refine g_sub (ls' := [(0, .ref a), (1, .int x1), (2, .ref (a + 245 + 2 * i1)), (3, .int j9.1), (4, .int j9.2.1)]) [0, 1, 2, 3, 4] rfl ?_
                exact h18 j13.2.2
      · refine g_if_ne K 28 32 dX1_isGnawed_25 rfl (by decide) (fun _ => ?_) (fun _ => ?_)
        · refine g_iconst K (nI 0) ic_0 29 dX1_isGnawed_28 rfl ?_
          refine g_goto K 39 dX1_isGnawed_29 (by decide) ?_
          exact h15 ((nI 0), j9.2.2.1, j9.2.2.2)
        · refine g_aloadn K 0 rfl rfl 33 dX1_isGnawed_32 rfl ?_
          refine g_aloadn K 2 rfl rfl 34 dX1_isGnawed_33 rfl ?_
          refine g_iload K 4 rfl 36 dX1_isGnawed_34 rfl ?_
          refine gx_call K hK hsh 39 (ctx_x1_gnaws j9.2.2.1 j9.2.2.2 a (a + 245 + 2 * i1) j9.2.1 ha (sh_23 hsh (sh_1_house hsh ha) hi2)) (lw_V q1229 q1230 q1231 q152 q1232) wd_x1_gnaws ha rfl (Nat.le_of_ble_eq_true rfl) rfl (by decide) rfl (Nat.le_of_ble_eq_true rfl) dX1_isGnawed_36 rfl (fun r23 hr24 => ?_)
          exact h15 (r23.1, r23.2.1, r23.2.2)
/-- GingerRents$Borough.isMelting(I)V -/
def x1_isMelting (kd : Kd) (P : Ptr) (I : Mem) (a : Nat) (x1 : Int32) : Option (Ptr × Mem) :=
  (ix 12 x1).bind fun i1 =>
  jn (fun (j3 : Int32 × Ptr × Mem) =>
  (x1_counts j3.2.2 a (nI 3) x1 j3.1).bind fun r6 =>
  if (r6 a 16) = (nI 1) then
  (x3_stands r6 (a + 245 + 2 * i1)).bind fun r8 =>
  if (bI r8) = 0 then
  some (j3.2.1, r6)
  else
  nm (up2 r6 (a + 245 + 2 * i1) 3 (imin (nI 9) ((r6 (a + 245 + 2 * i1) 3) + (nI 1)))) fun I10 =>
  some (j3.2.1, I10)
  else
  some (j3.2.1, r6)) (fun k4 =>
  lp (fun again12 (j11 : Int32 × Int32 × Ptr × Mem) =>
  if (nI 4) ≤ j11.2.1 then
  k4 (j11.1, j11.2.2.1, j11.2.2.2)
  else
  if (j11.2.2.2 a 16) = 0 then
  (rd j11.2.2.2 (a + 245 + 2 * i1 + 1) 4 j11.2.1).bind fun v14 =>
  jn (fun (j15 : Int32 × Ptr × Mem) =>
  again12 ((j11.1 + j15.1), (j11.2.1 + (nI 1)), j15.2.1, j15.2.2)) (fun k16 =>
  if v14 = 0 then
  k16 ((nI 0), j11.2.2.1, j11.2.2.2)
  else
  (x1_melts kd j11.2.2.1 j11.2.2.2 a (a + 245 + 2 * i1) j11.2.1).bind fun r18 =>
  (x3_loses r18.2.2 (a + 245 + 2 * i1) j11.2.1 r18.1).bind fun r20 =>
  k16 (r20.1, r18.2.1, r20.2))
  else
  k4 (j11.1, j11.2.2.1, j11.2.2.2)) fuel ((nI 0), (nI 0), P, I))
theorem wd_x1_isMelting : yX1_isMelting.cls = RX1 ∧ yX1_isMelting.cls ≠ "java/lang/invoke/MethodHandle" ∧ yX1_isMelting.cls ≠ "java/lang/invoke/VarHandle" ∧ (parseMethodDescriptor yX1_isMelting.desc).map (fun d => d.parameters.length) = some 1 := by decide +kernel
set_option maxRecDepth 100000 in
theorem ctx_x1_isMelting {cs : Cs} {z : Nat} {kd : Kd} (P : Ptr) (I : Mem) (a : Nat) (x1 : Int32) (ha : kd a = (1, 0, 0)) : CtX cs z kd yX1_isMelting cX1_isMelting 5 none 425 10618 [.ref a, .int x1] (P, I) (fun r => (none, (r.1, r.2))) (x1_isMelting kd P I a x1) := by
  refine CtX.of RX1 (by decide) rfl (Nat.le_of_ble_eq_true rfl) ?_
  intro l D sz p e s m args below meth c hsh K hr hlk hK
  refine g_sub (ls' := [(0, .ref a), (1, .int x1)]) [0, 1] rfl ?_
  unfold x1_isMelting
  refine g_aloadn K 0 rfl rfl 1 dX1_isMelting_0 rfl ?_
  refine gx_get K hK hsh 0 (v := .ref (a + 1)) 4 in_X1 ha rfl (Nat.le_of_ble_eq_true rfl) rfl (by decide) (Or.inl q294) rfl dX1_isMelting_1 rfl ?_
  refine g_iloadn K 1 rfl rfl 5 dX1_isMelting_4 rfl ?_
  refine gx_hal K hK hsh 6 (sh_1_house hsh ha) dX1_isMelting_5 rfl (fun i1 hi2 => ?_)
  refine g_astoren K [(0, .ref a), (1, .int x1), (2, .ref (a + 245 + 2 * i1))] [1, 2, 0] rfl (by decide) rfl 7 dX1_isMelting_6 rfl ?_
  refine g_iconst K (nI 0) ic_0 8 dX1_isMelting_7 rfl ?_
  refine g_istoren K [(0, .ref a), (1, .int x1), (2, .ref (a + 245 + 2 * i1)), (3, .int (nI 0))] [1, 2, 3, 0] rfl (by decide) rfl 9 dX1_isMelting_8 rfl ?_
  refine g_iconst K (nI 0) ic_0 10 dX1_isMelting_9 rfl ?_
  refine g_istore K [(0, .ref a), (1, .int x1), (2, .ref (a + 245 + 2 * i1)), (3, .int (nI 0)), (4, .int (nI 0))] [1, 2, 3, 4, 0] (by decide) rfl 12 dX1_isMelting_10 rfl ?_
  refine g_jn (head := 61) (L := fun j3 => [(0, .ref a), (1, .int x1), (2, .ref (a + 245 + 2 * i1)), (3, .int j3.1)]) (sf := fun j3 => []) (mf := fun j3 => (j3.2.1, j3.2.2)) (fun j3 => ?_) (fun k4 h5 => ?_)
  · try dsimp only
    refine g_aloadn K 0 rfl rfl 62 dX1_isMelting_61 rfl ?_
    refine g_iconst K (nI 3) ic_3 63 dX1_isMelting_62 rfl ?_
    refine g_iloadn K 1 rfl rfl 64 dX1_isMelting_63 rfl ?_
    refine g_iloadn K 3 rfl rfl 65 dX1_isMelting_64 rfl ?_
    refine gx_call K hK hsh 68 (ctx_x1_counts j3.2.1 j3.2.2 a (nI 3) x1 j3.1 ha) (lw_V q1221 q1223 qs37 q152 q1224) wd_x1_counts ha rfl (Nat.le_of_ble_eq_true rfl) rfl (by decide) rfl (Nat.le_of_ble_eq_true rfl) dX1_isMelting_65 rfl (fun r6 hr7 => ?_)
    refine g_aloadn K 0 rfl rfl 69 dX1_isMelting_68 rfl ?_
    refine gx_get K hK hsh 16 (v := .int (r6 a 16)) 72 in_X1 ha rfl (Nat.le_of_ble_eq_true rfl) rfl (by decide) (Or.inl q332) rfl dX1_isMelting_69 rfl ?_
    refine g_iconst K (nI 1) ic_1 73 dX1_isMelting_72 rfl ?_
    refine g_icmp_ne K 76 98 dX1_isMelting_73 rfl (by decide) (fun _ => ?_) (fun _ => ?_)
    · refine g_aloadn K 2 rfl rfl 77 dX1_isMelting_76 rfl ?_
      refine gx_call K hK hsh 80 (ctx_x3_stands j3.2.1 r6 (a + 245 + 2 * i1) (sh_23 hsh (sh_1_house hsh ha) hi2)) (lw_V q1036 q1037 q1038 q157 q1039) wd_x3_stands (sh_23 hsh (sh_1_house hsh ha) hi2) rfl (Nat.le_of_ble_eq_true rfl) rfl (by decide) rfl (Nat.le_of_ble_eq_true rfl) dX1_isMelting_77 rfl (fun r8 hr9 => ?_)
      refine g_if_eq K 83 98 dX1_isMelting_80 rfl (by decide) (fun _ => ?_) (fun _ => ?_)
      · exact gx_vret K hK hsh hr hlk dX1_isMelting_98 rfl
      · refine g_aloadn K 2 rfl rfl 84 dX1_isMelting_83 rfl ?_
        refine g_bipush K (nI 9) bp_9 86 dX1_isMelting_84 rfl ?_
        refine g_aloadn K 2 rfl rfl 87 dX1_isMelting_86 rfl ?_
        refine gx_get K hK hsh 3 (v := .int (r6 (a + 245 + 2 * i1) 3)) 90 in_X3 (sh_23 hsh (sh_1_house hsh ha) hi2) rfl (Nat.le_of_ble_eq_true rfl) rfl (by decide) (Or.inr (nf_q262 hK.2)) rfl dX1_isMelting_87 rfl ?_
        refine g_iconst K (nI 1) ic_1 91 dX1_isMelting_90 rfl ?_
        refine g_iadd K 92 dX1_isMelting_91 rfl ?_
        refine g_mmin K 95 q1247 q878 q159 q879 (by decide) (Nat.le_of_ble_eq_true rfl) dX1_isMelting_92 rfl ?_
        refine gx_put K hK hsh 3 (ty := .int) 98 in_X3 tyX3 tyX3_ok nmX3 (sh_23 hsh (sh_1_house hsh ha) hi2) rfl rfl (Nat.le_of_ble_eq_true rfl) rfl (by decide) (Or.inr (nf_q262 hK.2)) rfl (by decide +kernel) rfl rfl (Nat.le_of_ble_eq_true rfl) dX1_isMelting_95 rfl (fun I10 _ => ?_)
        exact gx_vret K hK hsh hr hlk dX1_isMelting_98 rfl
    · exact gx_vret K hK hsh hr hlk dX1_isMelting_98 rfl
  · refine g_lp (head := 12) (L := fun j11 => [(0, .ref a), (1, .int x1), (2, .ref (a + 245 + 2 * i1)), (3, .int j11.1), (4, .int j11.2.1)]) (sf := fun j11 => []) (mf := fun j11 => (j11.2.2.1, j11.2.2.2)) (fun again12 h13 j11 => ?_) fuel ((nI 0), (nI 0), P, I)
    try dsimp only
    refine g_iload K 4 rfl 14 dX1_isMelting_12 rfl ?_
    refine g_iconst K (nI 4) ic_4 15 dX1_isMelting_14 rfl ?_
    refine g_icmp_ge K 18 61 dX1_isMelting_15 rfl (by decide) (fun _ => ?_) (fun _ => ?_)
    · refine g_sub (ls' := [(0, .ref a), (1, .int x1), (2, .ref (a + 245 + 2 * i1)), (3, .int j11.1)]) [0, 1, 2, 3] rfl ?_
      exact h5 (j11.1, j11.2.2.1, j11.2.2.2)
    · refine g_aloadn K 0 rfl rfl 19 dX1_isMelting_18 rfl ?_
      refine gx_get K hK hsh 16 (v := .int (j11.2.2.2 a 16)) 22 in_X1 ha rfl (Nat.le_of_ble_eq_true rfl) rfl (by decide) (Or.inl q332) rfl dX1_isMelting_19 rfl ?_
      refine g_if_ne K 25 61 dX1_isMelting_22 rfl (by decide) (fun _ => ?_) (fun _ => ?_)
      · refine g_iloadn K 3 rfl rfl 26 dX1_isMelting_25 rfl ?_
        refine g_aloadn K 2 rfl rfl 27 dX1_isMelting_26 rfl ?_
        refine gx_get K hK hsh 0 (v := .ref (a + 245 + 2 * i1 + 1)) 30 in_X3 (sh_23 hsh (sh_1_house hsh ha) hi2) rfl (Nat.le_of_ble_eq_true rfl) rfl (by decide) (Or.inr (nf_q253 hK.2)) rfl dX1_isMelting_27 rfl ?_
        refine g_iload K 4 rfl 32 dX1_isMelting_30 rfl ?_
        refine gx_ald K hK hsh 33 (sh_3_wall hsh (sh_23 hsh (sh_1_house hsh ha) hi2)) dX1_isMelting_32 rfl (fun v14 => ?_)
        refine g_jn (head := 53) (L := fun j15 => [(0, .ref a), (1, .int x1), (2, .ref (a + 245 + 2 * i1)), (4, .int j11.2.1)]) (sf := fun j15 => [.int j15.1, .int j11.1]) (mf := fun j15 => (j15.2.1, j15.2.2)) (fun j15 => ?_) (fun k16 h17 => ?_)
        · try dsimp only
          refine g_iadd K 54 dX1_isMelting_53 rfl ?_
          refine g_istoren K [(0, .ref a), (1, .int x1), (2, .ref (a + 245 + 2 * i1)), (3, .int (j11.1 + j15.1)), (4, .int j11.2.1)] [1, 2, 3, 0, 4] rfl (by decide) rfl 55 dX1_isMelting_54 rfl ?_
          refine g_iinc K (j11.2.1 + (nI 1)) 4 [(0, .ref a), (1, .int x1), (2, .ref (a + 245 + 2 * i1)), (3, .int (j11.1 + j15.1)), (4, .int (j11.2.1 + (nI 1)))] [1, 2, 3, 4, 0] rfl (by rw [ic_1]) (by decide) rfl 58 dX1_isMelting_55 rfl ?_
          refine g_goto K 12 dX1_isMelting_58 (by decide) ?_
          exact h13 ((j11.1 + j15.1), (j11.2.1 + (nI 1)), j15.2.1, j15.2.2)
        · refine g_if_ne K 36 40 dX1_isMelting_33 rfl (by decide) (fun _ => ?_) (fun _ => ?_)
          · refine g_iconst K (nI 0) ic_0 37 dX1_isMelting_36 rfl ?_
            refine g_goto K 53 dX1_isMelting_37 (by decide) ?_
            refine g_sub (ls' := [(0, .ref a), (1, .int x1), (2, .ref (a + 245 + 2 * i1)), (4, .int j11.2.1)]) [0, 1, 2, 4] rfl ?_
            exact h17 ((nI 0), j11.2.2.1, j11.2.2.2)
          · refine g_aloadn K 2 rfl rfl 41 dX1_isMelting_40 rfl ?_
            refine g_iload K 4 rfl 43 dX1_isMelting_41 rfl ?_
            refine g_aloadn K 0 rfl rfl 44 dX1_isMelting_43 rfl ?_
            refine g_aloadn K 2 rfl rfl 45 dX1_isMelting_44 rfl ?_
            refine g_iload K 4 rfl 47 dX1_isMelting_45 rfl ?_
            refine gx_call K hK hsh 50 (ctx_x1_melts j11.2.2.1 j11.2.2.2 a (a + 245 + 2 * i1) j11.2.1 ha (sh_23 hsh (sh_1_house hsh ha) hi2)) (lw_V q1243 q1244 q1245 q152 q1246) wd_x1_melts ha rfl (Nat.le_of_ble_eq_true rfl) rfl (by decide) rfl (Nat.le_of_ble_eq_true rfl) dX1_isMelting_47 rfl (fun r18 hr19 => ?_)
            refine gx_call K hK hsh 53 (ctx_x3_loses r18.2.1 r18.2.2 (a + 245 + 2 * i1) j11.2.1 r18.1 (sh_23 hsh (sh_1_house hsh ha) hi2)) (lw_V q1057 q1058 q1059 q157 q1060) wd_x3_loses (sh_23 hsh (sh_1_house hsh ha) hi2) rfl (Nat.le_of_ble_eq_true rfl) rfl (by decide) rfl (Nat.le_of_ble_eq_true rfl) dX1_isMelting_50 rfl (fun r20 hr21 => ?_)
            refine g_sub (ls' := [(0, .ref a), (1, .int x1), (2, .ref (a + 245 + 2 * i1)), (4, .int j11.2.1)]) [0, 1, 2, 4] rfl ?_
            exact h17 (r20.1, r18.2.1, r20.2)
      · refine g_sub (ls' := [(0, .ref a), (1, .int x1), (2, .ref (a + 245 + 2 * i1)), (3, .int j11.1)]) [0, 1, 2, 3] rfl ?_
        exact h5 (j11.1, j11.2.2.1, j11.2.2.2)
