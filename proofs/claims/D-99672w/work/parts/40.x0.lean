/-- java/lang/Integer.numberOfTrailingZeros(I)I -/
def j4_numberOfTrailingZeros (x1 : Int32) : Option Int32 :=
  nm ((x1 ^^^ (-1 : Int32)) &&& (x1 - (nI 1))) fun v1 =>
  if 0 < v1 then
  jn (fun (j2 : Int32 × Int32) =>
  jn (fun (j5 : Int32 × Int32) =>
  jn (fun (j8 : Int32 × Int32) =>
  jn (fun (j11 : Int32 × Int32) =>
  some (j11.2 + (ush j11.1 (nI 1)))) (fun k12 =>
  if j8.1 ≤ (nI 4) then
  k12 (j8.1, j8.2)
  else
  nm (ush j8.1 (nI 2)) fun v14 =>
  k12 (v14, (j8.2 + (nI 2))))) (fun k9 =>
  if j5.1 ≤ (nI 16) then
  k9 (j5.1, j5.2)
  else
  nm (ush j5.1 (nI 4)) fun v15 =>
  k9 (v15, (j5.2 + (nI 4))))) (fun k6 =>
  if j2.1 ≤ (nI 256) then
  k6 (j2.1, j2.2)
  else
  nm (ush j2.1 (nI 8)) fun v16 =>
  k6 (v16, (j2.2 + (nI 8))))) (fun k3 =>
  if v1 ≤ (65536 : Int32) then
  k3 (v1, (nI 1))
  else
  nm (ush v1 (nI 16)) fun v17 =>
  k3 (v17, ((nI 1) + (nI 16))))
  else
  some (v1 &&& (nI 32))
theorem wds_j4_numberOfTrailingZeros : yJ4_numberOfTrailingZeros.cls ≠ "java/lang/invoke/MethodHandle" ∧ yJ4_numberOfTrailingZeros.cls ≠ "java/lang/invoke/VarHandle" ∧ (parseMethodDescriptor yJ4_numberOfTrailingZeros.desc).map (fun d => d.parameters.length) = some 1 := by decide +kernel
set_option maxRecDepth 100000 in
theorem cts_j4_numberOfTrailingZeros (x1 : Int32) : CtS yJ4_numberOfTrailingZeros cJ4_numberOfTrailingZeros 2 (some .int) 0 0 [.int x1] (fun r => some (.int r)) (j4_numberOfTrailingZeros x1) := by
  refine CtS.of RJ4 (by decide) rfl (Nat.le_of_ble_eq_true rfl) ?_
  intro l p e s m args below meth c K hr hlk
  refine g_sub (ls' := [(0, .int x1)]) [0] rfl ?_
  unfold j4_numberOfTrailingZeros
  refine g_iloadn K 0 rfl rfl 1 dJ4_numberOfTrailingZeros_0 rfl ?_
  refine g_iconst K (-1 : Int32) ic_m1 2 dJ4_numberOfTrailingZeros_1 rfl ?_
  refine g_ixor K 3 dJ4_numberOfTrailingZeros_2 rfl ?_
  refine g_iloadn K 0 rfl rfl 4 dJ4_numberOfTrailingZeros_3 rfl ?_
  refine g_iconst K (nI 1) ic_1 5 dJ4_numberOfTrailingZeros_4 rfl ?_
  refine g_isub K 6 dJ4_numberOfTrailingZeros_5 rfl ?_
  refine g_iand K 7 dJ4_numberOfTrailingZeros_6 rfl ?_
  refine g_nm (fun v1 _ => ?_)
  refine g_istoren K [(0, .int v1)] [0] rfl (by decide) rfl 8 dJ4_numberOfTrailingZeros_7 rfl ?_
  refine g_iloadn K 0 rfl rfl 9 dJ4_numberOfTrailingZeros_8 rfl ?_
  refine g_if_gt K 12 17 dJ4_numberOfTrailingZeros_9 rfl (by decide) (fun _ => ?_) (fun _ => ?_)
  · refine g_iconst K (nI 1) ic_1 18 dJ4_numberOfTrailingZeros_17 rfl ?_
    refine g_istoren K [(0, .int v1), (1, .int (nI 1))] [1, 0] rfl (by decide) rfl 19 dJ4_numberOfTrailingZeros_18 rfl ?_
    refine g_iloadn K 0 rfl rfl 20 dJ4_numberOfTrailingZeros_19 rfl ?_
    refine g_ldcw K q1077 23 dJ4_numberOfTrailingZeros_20 rfl ?_
    refine g_jn (head := 34) (L := fun j2 => [(0, .int j2.1), (1, .int j2.2)]) (sf := fun j2 => []) (mf := fun j2 => ()) (fun j2 => ?_) (fun k3 h4 => ?_)
    · try dsimp only
      refine g_iloadn K 0 rfl rfl 35 dJ4_numberOfTrailingZeros_34 rfl ?_
      refine g_sipush K (nI 256) sp_256 38 dJ4_numberOfTrailingZeros_35 rfl ?_
      refine g_jn (head := 49) (L := fun j5 => [(0, .int j5.1), (1, .int j5.2)]) (sf := fun j5 => []) (mf := fun j5 => ()) (fun j5 => ?_) (fun k6 h7 => ?_)
      · try dsimp only
        refine g_iloadn K 0 rfl rfl 50 dJ4_numberOfTrailingZeros_49 rfl ?_
        refine g_bipush K (nI 16) bp_16 52 dJ4_numberOfTrailingZeros_50 rfl ?_
        refine g_jn (head := 62) (L := fun j8 => [(0, .int j8.1), (1, .int j8.2)]) (sf := fun j8 => []) (mf := fun j8 => ()) (fun j8 => ?_) (fun k9 h10 => ?_)
        · try dsimp only
          refine g_iloadn K 0 rfl rfl 63 dJ4_numberOfTrailingZeros_62 rfl ?_
          refine g_iconst K (nI 4) ic_4 64 dJ4_numberOfTrailingZeros_63 rfl ?_
          refine g_jn (head := 74) (L := fun j11 => [(0, .int j11.1), (1, .int j11.2)]) (sf := fun j11 => []) (mf := fun j11 => ()) (fun j11 => ?_) (fun k12 h13 => ?_)
          · try dsimp only
            refine g_iloadn K 1 rfl rfl 75 dJ4_numberOfTrailingZeros_74 rfl ?_
            refine g_iloadn K 0 rfl rfl 76 dJ4_numberOfTrailingZeros_75 rfl ?_
            refine g_iconst K (nI 1) ic_1 77 dJ4_numberOfTrailingZeros_76 rfl ?_
            refine g_iushr K 78 dJ4_numberOfTrailingZeros_77 rfl ?_
            refine g_iadd K 79 dJ4_numberOfTrailingZeros_78 rfl ?_
            exact gs_iret K hr hlk dJ4_numberOfTrailingZeros_79 rfl
          · refine g_icmp_le K 67 74 dJ4_numberOfTrailingZeros_64 rfl (by decide) (fun _ => ?_) (fun _ => ?_)
            · exact h13 (j8.1, j8.2)
            · refine g_iinc K (j8.2 + (nI 2)) 1 [(0, .int j8.1), (1, .int (j8.2 + (nI 2)))] [1, 0] rfl (by rw [ic_2]) (by decide) rfl 70 dJ4_numberOfTrailingZeros_67 rfl ?_
              refine g_iloadn K 0 rfl rfl 71 dJ4_numberOfTrailingZeros_70 rfl ?_
              refine g_iconst K (nI 2) ic_2 72 dJ4_numberOfTrailingZeros_71 rfl ?_
              refine g_iushr K 73 dJ4_numberOfTrailingZeros_72 rfl ?_
              refine g_nm (fun v14 _ => ?_)
              refine g_istoren K [(0, .int v14), (1, .int (j8.2 + (nI 2)))] [0, 1] rfl (by decide) rfl 74 dJ4_numberOfTrailingZeros_73 rfl ?_
              exact h13 (v14, (j8.2 + (nI 2)))
        · refine g_icmp_le K 55 62 dJ4_numberOfTrailingZeros_52 rfl (by decide) (fun _ => ?_) (fun _ => ?_)
          · exact h10 (j5.1, j5.2)
          · refine g_iinc K (j5.2 + (nI 4)) 1 [(0, .int j5.1), (1, .int (j5.2 + (nI 4)))] [1, 0] rfl (by rw [ic_4]) (by decide) rfl 58 dJ4_numberOfTrailingZeros_55 rfl ?_
            refine g_iloadn K 0 rfl rfl 59 dJ4_numberOfTrailingZeros_58 rfl ?_
            refine g_iconst K (nI 4) ic_4 60 dJ4_numberOfTrailingZeros_59 rfl ?_
            refine g_iushr K 61 dJ4_numberOfTrailingZeros_60 rfl ?_
            refine g_nm (fun v15 _ => ?_)
            refine g_istoren K [(0, .int v15), (1, .int (j5.2 + (nI 4)))] [0, 1] rfl (by decide) rfl 62 dJ4_numberOfTrailingZeros_61 rfl ?_
            exact h10 (v15, (j5.2 + (nI 4)))
      · refine g_icmp_le K 41 49 dJ4_numberOfTrailingZeros_38 rfl (by decide) (fun _ => ?_) (fun _ => ?_)
        · exact h7 (j2.1, j2.2)
        · refine g_iinc K (j2.2 + (nI 8)) 1 [(0, .int j2.1), (1, .int (j2.2 + (nI 8)))] [1, 0] rfl (by rw [ic_8]) (by decide) rfl 44 dJ4_numberOfTrailingZeros_41 rfl ?_
          refine g_iloadn K 0 rfl rfl 45 dJ4_numberOfTrailingZeros_44 rfl ?_
          refine g_bipush K (nI 8) bp_8 47 dJ4_numberOfTrailingZeros_45 rfl ?_
          refine g_iushr K 48 dJ4_numberOfTrailingZeros_47 rfl ?_
          refine g_nm (fun v16 _ => ?_)
          refine g_istoren K [(0, .int v16), (1, .int (j2.2 + (nI 8)))] [0, 1] rfl (by decide) rfl 49 dJ4_numberOfTrailingZeros_48 rfl ?_
          exact h7 (v16, (j2.2 + (nI 8)))
    · refine g_icmp_le K 26 34 dJ4_numberOfTrailingZeros_23 rfl (by decide) (fun _ => ?_) (fun _ => ?_)
      · exact h4 (v1, (nI 1))
      · refine g_iinc K ((nI 1) + (nI 16)) 1 [(0, .int v1), (1, .int ((nI 1) + (nI 16)))] [1, 0] rfl (by rw [ic_16]) (by decide) rfl 29 dJ4_numberOfTrailingZeros_26 rfl ?_
        refine g_iloadn K 0 rfl rfl 30 dJ4_numberOfTrailingZeros_29 rfl ?_
        refine g_bipush K (nI 16) bp_16 32 dJ4_numberOfTrailingZeros_30 rfl ?_
        refine g_iushr K 33 dJ4_numberOfTrailingZeros_32 rfl ?_
        refine g_nm (fun v17 _ => ?_)
        refine g_istoren K [(0, .int v17), (1, .int ((nI 1) + (nI 16)))] [0, 1] rfl (by decide) rfl 34 dJ4_numberOfTrailingZeros_33 rfl ?_
        exact h4 (v17, ((nI 1) + (nI 16)))
  · refine g_iloadn K 0 rfl rfl 13 dJ4_numberOfTrailingZeros_12 rfl ?_
    refine g_bipush K (nI 32) bp_32 15 dJ4_numberOfTrailingZeros_13 rfl ?_
    refine g_iand K 16 dJ4_numberOfTrailingZeros_15 rfl ?_
    exact gs_iret K hr hlk dJ4_numberOfTrailingZeros_16 rfl
/-- java/lang/Integer.bitCount(I)I -/
def j4_bitCount (x1 : Int32) : Option Int32 :=
  nm (x1 - ((ush x1 (nI 1)) &&& (1431655765 : Int32))) fun v1 =>
  nm ((v1 &&& (858993459 : Int32)) + ((ush v1 (nI 2)) &&& (858993459 : Int32))) fun v2 =>
  nm ((v2 + (ush v2 (nI 4))) &&& (252645135 : Int32)) fun v3 =>
  nm (v3 + (ush v3 (nI 8))) fun v4 =>
  nm (v4 + (ush v4 (nI 16))) fun v5 =>
  some (v5 &&& (nI 63))
theorem wds_j4_bitCount : yJ4_bitCount.cls ≠ "java/lang/invoke/MethodHandle" ∧ yJ4_bitCount.cls ≠ "java/lang/invoke/VarHandle" ∧ (parseMethodDescriptor yJ4_bitCount.desc).map (fun d => d.parameters.length) = some 1 := by decide +kernel
set_option maxRecDepth 100000 in
theorem cts_j4_bitCount (x1 : Int32) : CtS yJ4_bitCount cJ4_bitCount 1 (some .int) 0 0 [.int x1] (fun r => some (.int r)) (j4_bitCount x1) := by
  refine CtS.of RJ4 (by decide) rfl (Nat.le_of_ble_eq_true rfl) ?_
  intro l p e s m args below meth c K hr hlk
  refine g_sub (ls' := [(0, .int x1)]) [0] rfl ?_
  unfold j4_bitCount
  refine g_iloadn K 0 rfl rfl 1 dJ4_bitCount_0 rfl ?_
  refine g_iloadn K 0 rfl rfl 2 dJ4_bitCount_1 rfl ?_
  refine g_iconst K (nI 1) ic_1 3 dJ4_bitCount_2 rfl ?_
  refine g_iushr K 4 dJ4_bitCount_3 rfl ?_
  refine g_ldcw K q1251 7 dJ4_bitCount_4 rfl ?_
  refine g_iand K 8 dJ4_bitCount_7 rfl ?_
  refine g_isub K 9 dJ4_bitCount_8 rfl ?_
  refine g_nm (fun v1 _ => ?_)
  refine g_istoren K [(0, .int v1)] [0] rfl (by decide) rfl 10 dJ4_bitCount_9 rfl ?_
  refine g_iloadn K 0 rfl rfl 11 dJ4_bitCount_10 rfl ?_
  refine g_ldcw K q1252 14 dJ4_bitCount_11 rfl ?_
  refine g_iand K 15 dJ4_bitCount_14 rfl ?_
  refine g_iloadn K 0 rfl rfl 16 dJ4_bitCount_15 rfl ?_
  refine g_iconst K (nI 2) ic_2 17 dJ4_bitCount_16 rfl ?_
  refine g_iushr K 18 dJ4_bitCount_17 rfl ?_
  refine g_ldcw K q1252 21 dJ4_bitCount_18 rfl ?_
  refine g_iand K 22 dJ4_bitCount_21 rfl ?_
  refine g_iadd K 23 dJ4_bitCount_22 rfl ?_
  refine g_nm (fun v2 _ => ?_)
  refine g_istoren K [(0, .int v2)] [0] rfl (by decide) rfl 24 dJ4_bitCount_23 rfl ?_
  refine g_iloadn K 0 rfl rfl 25 dJ4_bitCount_24 rfl ?_
  refine g_iloadn K 0 rfl rfl 26 dJ4_bitCount_25 rfl ?_
  refine g_iconst K (nI 4) ic_4 27 dJ4_bitCount_26 rfl ?_
  refine g_iushr K 28 dJ4_bitCount_27 rfl ?_
  refine g_iadd K 29 dJ4_bitCount_28 rfl ?_
  refine g_ldcw K q1253 32 dJ4_bitCount_29 rfl ?_
  refine g_iand K 33 dJ4_bitCount_32 rfl ?_
  refine g_nm (fun v3 _ => ?_)
  refine g_istoren K [(0, .int v3)] [0] rfl (by decide) rfl 34 dJ4_bitCount_33 rfl ?_
  refine g_iloadn K 0 rfl rfl 35 dJ4_bitCount_34 rfl ?_
  refine g_iloadn K 0 rfl rfl 36 dJ4_bitCount_35 rfl ?_
  refine g_bipush K (nI 8) bp_8 38 dJ4_bitCount_36 rfl ?_
  refine g_iushr K 39 dJ4_bitCount_38 rfl ?_
  refine g_iadd K 40 dJ4_bitCount_39 rfl ?_
  refine g_nm (fun v4 _ => ?_)
  refine g_istoren K [(0, .int v4)] [0] rfl (by decide) rfl 41 dJ4_bitCount_40 rfl ?_
  refine g_iloadn K 0 rfl rfl 42 dJ4_bitCount_41 rfl ?_
  refine g_iloadn K 0 rfl rfl 43 dJ4_bitCount_42 rfl ?_
  refine g_bipush K (nI 16) bp_16 45 dJ4_bitCount_43 rfl ?_
  refine g_iushr K 46 dJ4_bitCount_45 rfl ?_
  refine g_iadd K 47 dJ4_bitCount_46 rfl ?_
  refine g_nm (fun v5 _ => ?_)
  refine g_istoren K [(0, .int v5)] [0] rfl (by decide) rfl 48 dJ4_bitCount_47 rfl ?_
  refine g_iloadn K 0 rfl rfl 49 dJ4_bitCount_48 rfl ?_
  refine g_bipush K (nI 63) bp_63 51 dJ4_bitCount_49 rfl ?_
  refine g_iand K 52 dJ4_bitCount_51 rfl ?_
  exact gs_iret K hr hlk dJ4_bitCount_52 rfl
/-- GingerRents$House.takes(LGingerRents$House;)V -/
def x3_takes (I : Mem) (a : Nat) (x1 : Nat) : Option (Mem) :=
  jn (fun (j1 : Mem) =>
  nm (up2 j1 a 1 (j1 x1 1)) fun I4 =>
  nm (up2 I4 a 2 (I4 x1 2)) fun I5 =>
  nm (up2 I5 a 3 (I5 x1 3)) fun I6 =>
  nm (up2 I6 a 4 (I6 x1 4)) fun I7 =>
  nm (up2 I7 a 5 (I7 x1 5)) fun I8 =>
  nm (up2 I8 a 6 (I8 x1 6)) fun I9 =>
  (zb (I9 x1 7)).bind fun _ =>
  nm (up2 I9 a 7 (I9 x1 7)) fun I11 =>
  some I11) (fun k2 =>
  lp (fun again13 (j12 : Int32 × Mem) =>
  if (nI 4) ≤ j12.1 then
  k2 j12.2
  else
  (rd j12.2 (x1 + 1) 4 j12.1).bind fun v15 =>
  (wr j12.2 (a + 1) 4 j12.1 v15).bind fun I16 =>
  again13 ((j12.1 + (nI 1)), I16)) fuel ((nI 0), I))
theorem wd_x3_takes : yX3_takes.cls = RX3 ∧ yX3_takes.cls ≠ "java/lang/invoke/MethodHandle" ∧ yX3_takes.cls ≠ "java/lang/invoke/VarHandle" ∧ (parseMethodDescriptor yX3_takes.desc).map (fun d => d.parameters.length) = some 1 := by decide +kernel
set_option maxRecDepth 100000 in
theorem ctx_x3_takes {cs : Cs} {z : Nat} {kd : Kd} (P : Ptr) (I : Mem) (a : Nat) (x1 : Nat) (ha : kd a = (3, 0, 0)) (hx1 : kd x1 = (3, 0, 0)) : CtX cs z kd yX3_takes cX3_takes 3 none 0 0 [.ref a, .ref x1] (P, I) (fun r => (none, (P, r))) (x3_takes I a x1) := by
  refine CtX.of RX3 (by decide) rfl (Nat.le_of_ble_eq_true rfl) ?_
  intro l D sz p e s m args below meth c hsh K hr hlk hK
  refine g_sub (ls' := [(0, .ref a), (1, .ref x1)]) [0, 1] rfl ?_
  unfold x3_takes
  refine g_iconst K (nI 0) ic_0 1 dX3_takes_0 rfl ?_
  refine g_istoren K [(0, .ref a), (1, .ref x1), (2, .int (nI 0))] [1, 2, 0] rfl (by decide) rfl 2 dX3_takes_1 rfl ?_
  refine g_jn (head := 25) (L := fun j1 => [(0, .ref a), (1, .ref x1)]) (sf := fun j1 => []) (mf := fun j1 => (P, j1)) (fun j1 => ?_) (fun k2 h3 => ?_)
  · try dsimp only
    refine g_aloadn K 0 rfl rfl 26 dX3_takes_25 rfl ?_
    refine g_aloadn K 1 rfl rfl 27 dX3_takes_26 rfl ?_
    refine gx_get K hK hsh 1 (v := .int (j1 x1 1)) 30 in_X3 hx1 rfl (Nat.le_of_ble_eq_true rfl) rfl (by decide) (Or.inl q255) rfl dX3_takes_27 rfl ?_
    refine gx_put K hK hsh 1 (ty := .int) 33 in_X3 tyX3 tyX3_ok nmX3 ha rfl rfl (Nat.le_of_ble_eq_true rfl) rfl (by decide) (Or.inl q255) rfl (by decide +kernel) rfl rfl (Nat.le_of_ble_eq_true rfl) dX3_takes_30 rfl (fun I4 _ => ?_)
    refine g_aloadn K 0 rfl rfl 34 dX3_takes_33 rfl ?_
    refine g_aloadn K 1 rfl rfl 35 dX3_takes_34 rfl ?_
    refine gx_get K hK hsh 2 (v := .int (I4 x1 2)) 38 in_X3 hx1 rfl (Nat.le_of_ble_eq_true rfl) rfl (by decide) (Or.inl q258) rfl dX3_takes_35 rfl ?_
    refine gx_put K hK hsh 2 (ty := .int) 41 in_X3 tyX3 tyX3_ok nmX3 ha rfl rfl (Nat.le_of_ble_eq_true rfl) rfl (by decide) (Or.inl q258) rfl (by decide +kernel) rfl rfl (Nat.le_of_ble_eq_true rfl) dX3_takes_38 rfl (fun I5 _ => ?_)
    refine g_aloadn K 0 rfl rfl 42 dX3_takes_41 rfl ?_
    refine g_aloadn K 1 rfl rfl 43 dX3_takes_42 rfl ?_
    refine gx_get K hK hsh 3 (v := .int (I5 x1 3)) 46 in_X3 hx1 rfl (Nat.le_of_ble_eq_true rfl) rfl (by decide) (Or.inl q261) rfl dX3_takes_43 rfl ?_
    refine gx_put K hK hsh 3 (ty := .int) 49 in_X3 tyX3 tyX3_ok nmX3 ha rfl rfl (Nat.le_of_ble_eq_true rfl) rfl (by decide) (Or.inl q261) rfl (by decide +kernel) rfl rfl (Nat.le_of_ble_eq_true rfl) dX3_takes_46 rfl (fun I6 _ => ?_)
    refine g_aloadn K 0 rfl rfl 50 dX3_takes_49 rfl ?_
    refine g_aloadn K 1 rfl rfl 51 dX3_takes_50 rfl ?_
    refine gx_get K hK hsh 4 (v := .int (I6 x1 4)) 54 in_X3 hx1 rfl (Nat.le_of_ble_eq_true rfl) rfl (by decide) (Or.inl q265) rfl dX3_takes_51 rfl ?_
    refine gx_put K hK hsh 4 (ty := .int) 57 in_X3 tyX3 tyX3_ok nmX3 ha rfl rfl (Nat.le_of_ble_eq_true rfl) rfl (by decide) (Or.inl q265) rfl (by decide +kernel) rfl rfl (Nat.le_of_ble_eq_true rfl) dX3_takes_54 rfl (fun I7 _ => ?_)
    refine g_aloadn K 0 rfl rfl 58 dX3_takes_57 rfl ?_
    refine g_aloadn K 1 rfl rfl 59 dX3_takes_58 rfl ?_
    refine gx_get K hK hsh 5 (v := .int (I7 x1 5)) 62 in_X3 hx1 rfl (Nat.le_of_ble_eq_true rfl) rfl (by decide) (Or.inl q268) rfl dX3_takes_59 rfl ?_
    refine gx_put K hK hsh 5 (ty := .int) 65 in_X3 tyX3 tyX3_ok nmX3 ha rfl rfl (Nat.le_of_ble_eq_true rfl) rfl (by decide) (Or.inl q268) rfl (by decide +kernel) rfl rfl (Nat.le_of_ble_eq_true rfl) dX3_takes_62 rfl (fun I8 _ => ?_)
    refine g_aloadn K 0 rfl rfl 66 dX3_takes_65 rfl ?_
    refine g_aloadn K 1 rfl rfl 67 dX3_takes_66 rfl ?_
    refine gx_get K hK hsh 6 (v := .int (I8 x1 6)) 70 in_X3 hx1 rfl (Nat.le_of_ble_eq_true rfl) rfl (by decide) (Or.inl q271) rfl dX3_takes_67 rfl ?_
    refine gx_put K hK hsh 6 (ty := .int) 73 in_X3 tyX3 tyX3_ok nmX3 ha rfl rfl (Nat.le_of_ble_eq_true rfl) rfl (by decide) (Or.inl q271) rfl (by decide +kernel) rfl rfl (Nat.le_of_ble_eq_true rfl) dX3_takes_70 rfl (fun I9 _ => ?_)
    refine g_aloadn K 0 rfl rfl 74 dX3_takes_73 rfl ?_
    refine g_aloadn K 1 rfl rfl 75 dX3_takes_74 rfl ?_
    refine gx_get K hK hsh 7 (v := .int (I9 x1 7)) 78 in_X3 hx1 rfl (Nat.le_of_ble_eq_true rfl) rfl (by decide) (Or.inl q274) rfl dX3_takes_75 rfl ?_
    refine gx_zb (fun hz10 => ?_)
    refine gx_put K hK hsh 7 (ty := .boolean) 81 in_X3 tyX3 tyX3_ok nmX3 ha rfl rfl (Nat.le_of_ble_eq_true rfl) rfl (by decide) (Or.inl q274) rfl (by decide +kernel) (zb_nar hz10) (zb_fit hz10) (Nat.le_of_ble_eq_true rfl) dX3_takes_78 rfl (fun I11 _ => ?_)
    exact gx_vret K hK hsh hr hlk dX3_takes_81 rfl
  · refine g_lp (head := 2) (L := fun j12 => [(0, .ref a), (1, .ref x1), (2, .int j12.1)]) (sf := fun j12 => []) (mf := fun j12 => (P, j12.2)) (fun again13 h14 j12 => ?_) fuel ((nI 0), I)
    try dsimp only
    refine g_iloadn K 2 rfl rfl 3 dX3_takes_2 rfl ?_
    refine g_iconst K (nI 4) ic_4 4 dX3_takes_3 rfl ?_
    refine g_icmp_ge K 7 25 dX3_takes_4 rfl (by decide) (fun _ => ?_) (fun _ => ?_)
    · refine g_sub (ls' := [(0, .ref a), (1, .ref x1)]) [0, 1] rfl ?_
      exact h3 j12.2
    · refine g_aloadn K 0 rfl rfl 8 dX3_takes_7 rfl ?_
      refine gx_get K hK hsh 0 (v := .ref (a + 1)) 11 in_X3 ha rfl (Nat.le_of_ble_eq_true rfl) rfl (by decide) (Or.inl q252) rfl dX3_takes_8 rfl ?_
      refine g_iloadn K 2 rfl rfl 12 dX3_takes_11 rfl ?_
      refine g_aloadn K 1 rfl rfl 13 dX3_takes_12 rfl ?_
      refine gx_get K hK hsh 0 (v := .ref (x1 + 1)) 16 in_X3 hx1 rfl (Nat.le_of_ble_eq_true rfl) rfl (by decide) (Or.inl q252) rfl dX3_takes_13 rfl ?_
      refine g_iloadn K 2 rfl rfl 17 dX3_takes_16 rfl ?_
      refine gx_ald K hK hsh 18 (sh_3_wall hsh hx1) dX3_takes_17 rfl (fun v15 => ?_)
      refine gx_ast K hK hsh 19 (sh_3_wall hsh ha) dX3_takes_18 rfl (fun I16 => ?_)
      refine g_iinc K (j12.1 + (nI 1)) 2 [(0, .ref a), (1, .ref x1), (2, .int (j12.1 + (nI 1)))] [1, 2, 0] rfl (by rw [ic_1]) (by decide) rfl 22 dX3_takes_19 rfl ?_
      refine g_goto K 2 dX3_takes_22 (by decide) ?_
      exact h14 ((j12.1 + (nI 1)), I16)
/-- GingerRents$House.begins(III)V -/
def x3_begins (I : Mem) (a : Nat) (x1 : Int32) (x2 : Int32) (x3 : Int32) : Option (Mem) :=
  jn (fun (j1 : Mem) =>
  nm (up2 j1 a 1 x2) fun I4 =>
  nm (up2 I4 a 2 x3) fun I5 =>
  nm (up2 I5 a 3 (nI 0)) fun I6 =>
  nm (up2 I6 a 4 (nI 0)) fun I7 =>
  nm (up2 I7 a 5 (nI 1)) fun I8 =>
  nm (up2 I8 a 6 (nI 0)) fun I9 =>
  nm (up2 I9 a 7 (nI 0)) fun I10 =>
  some I10) (fun k2 =>
  lp (fun again12 (j11 : Int32 × Mem) =>
  if (nI 4) ≤ j11.1 then
  k2 j11.2
  else
  (wr j11.2 (a + 1) 4 j11.1 x1).bind fun I14 =>
  again12 ((j11.1 + (nI 1)), I14)) fuel ((nI 0), I))
theorem wd_x3_begins : yX3_begins.cls = RX3 ∧ yX3_begins.cls ≠ "java/lang/invoke/MethodHandle" ∧ yX3_begins.cls ≠ "java/lang/invoke/VarHandle" ∧ (parseMethodDescriptor yX3_begins.desc).map (fun d => d.parameters.length) = some 3 := by decide +kernel
set_option maxRecDepth 100000 in
theorem ctx_x3_begins {cs : Cs} {z : Nat} {kd : Kd} (P : Ptr) (I : Mem) (a : Nat) (x1 : Int32) (x2 : Int32) (x3 : Int32) (ha : kd a = (3, 0, 0)) : CtX cs z kd yX3_begins cX3_begins 5 none 0 0 [.ref a, .int x1, .int x2, .int x3] (P, I) (fun r => (none, (P, r))) (x3_begins I a x1 x2 x3) := by
  refine CtX.of RX3 (by decide) rfl (Nat.le_of_ble_eq_true rfl) ?_
  intro l D sz p e s m args below meth c hsh K hr hlk hK
  refine g_sub (ls' := [(0, .ref a), (1, .int x1), (2, .int x2), (3, .int x3)]) [0, 1, 2, 3] rfl ?_
  unfold x3_begins
  refine g_iconst K (nI 0) ic_0 1 dX3_begins_0 rfl ?_
  refine g_istore K [(0, .ref a), (1, .int x1), (2, .int x2), (3, .int x3), (4, .int (nI 0))] [1, 2, 3, 4, 0] (by decide) rfl 3 dX3_begins_1 rfl ?_
  refine g_jn (head := 23) (L := fun j1 => [(0, .ref a), (2, .int x2), (3, .int x3)]) (sf := fun j1 => []) (mf := fun j1 => (P, j1)) (fun j1 => ?_) (fun k2 h3 => ?_)
  · try dsimp only
    refine g_aloadn K 0 rfl rfl 24 dX3_begins_23 rfl ?_
    refine g_iloadn K 1 rfl rfl 25 dX3_begins_24 rfl ?_
    refine gx_put K hK hsh 1 (ty := .int) 28 in_X3 tyX3 tyX3_ok nmX3 ha rfl rfl (Nat.le_of_ble_eq_true rfl) rfl (by decide) (Or.inl q255) rfl (by decide +kernel) rfl rfl (Nat.le_of_ble_eq_true rfl) dX3_begins_25 rfl (fun I4 _ => ?_)
    refine g_aloadn K 0 rfl rfl 29 dX3_begins_28 rfl ?_
    refine g_iloadn K 2 rfl rfl 30 dX3_begins_29 rfl ?_
    refine gx_put K hK hsh 2 (ty := .int) 33 in_X3 tyX3 tyX3_ok nmX3 ha rfl rfl (Nat.le_of_ble_eq_true rfl) rfl (by decide) (Or.inl q258) rfl (by decide +kernel) rfl rfl (Nat.le_of_ble_eq_true rfl) dX3_begins_30 rfl (fun I5 _ => ?_)
    refine g_aloadn K 0 rfl rfl 34 dX3_begins_33 rfl ?_
    refine g_iconst K (nI 0) ic_0 35 dX3_begins_34 rfl ?_
    refine gx_put K hK hsh 3 (ty := .int) 38 in_X3 tyX3 tyX3_ok nmX3 ha rfl rfl (Nat.le_of_ble_eq_true rfl) rfl (by decide) (Or.inl q261) rfl (by decide +kernel) rfl rfl (Nat.le_of_ble_eq_true rfl) dX3_begins_35 rfl (fun I6 _ => ?_)
    refine g_aloadn K 0 rfl rfl 39 dX3_begins_38 rfl ?_
    refine g_iconst K (nI 0) ic_0 40 dX3_begins_39 rfl ?_
    refine gx_put K hK hsh 4 (ty := .int) 43 in_X3 tyX3 tyX3_ok nmX3 ha rfl rfl (Nat.le_of_ble_eq_true rfl) rfl (by decide) (Or.inl q265) rfl (by decide +kernel) rfl rfl (Nat.le_of_ble_eq_true rfl) dX3_begins_40 rfl (fun I7 _ => ?_)
    refine g_aloadn K 0 rfl rfl 44 dX3_begins_43 rfl ?_
    refine g_iconst K (nI 1) ic_1 45 dX3_begins_44 rfl ?_
    refine gx_put K hK hsh 5 (ty := .int) 48 in_X3 tyX3 tyX3_ok nmX3 ha rfl rfl (Nat.le_of_ble_eq_true rfl) rfl (by decide) (Or.inl q268) rfl (by decide +kernel) rfl rfl (Nat.le_of_ble_eq_true rfl) dX3_begins_45 rfl (fun I8 _ => ?_)
    refine g_aloadn K 0 rfl rfl 49 dX3_begins_48 rfl ?_
    refine g_iconst K (nI 0) ic_0 50 dX3_begins_49 rfl ?_
    refine gx_put K hK hsh 6 (ty := .int) 53 in_X3 tyX3 tyX3_ok nmX3 ha rfl rfl (Nat.le_of_ble_eq_true rfl) rfl (by decide) (Or.inl q271) rfl (by decide +kernel) rfl rfl (Nat.le_of_ble_eq_true rfl) dX3_begins_50 rfl (fun I9 _ => ?_)
    refine g_aloadn K 0 rfl rfl 54 dX3_begins_53 rfl ?_
    refine g_iconst K (nI 0) ic_0 55 dX3_begins_54 rfl ?_
    refine gx_put K hK hsh 7 (ty := .boolean) 58 in_X3 tyX3 tyX3_ok nmX3 ha rfl rfl (Nat.le_of_ble_eq_true rfl) rfl (by decide) (Or.inl q274) rfl (by decide +kernel) rfl rfl (Nat.le_of_ble_eq_true rfl) dX3_begins_55 rfl (fun I10 _ => ?_)
    exact gx_vret K hK hsh hr hlk dX3_begins_58 rfl
  · refine g_lp (head := 3) (L := fun j11 => [(0, .ref a), (1, .int x1), (2, .int x2), (3, .int x3), (4, .int j11.1)]) (sf := fun j11 => []) (mf := fun j11 => (P, j11.2)) (fun again12 h13 j11 => ?_) fuel ((nI 0), I)
    try dsimp only
    refine g_iload K 4 rfl 5 dX3_begins_3 rfl ?_
    refine g_iconst K (nI 4) ic_4 6 dX3_begins_5 rfl ?_
    refine g_icmp_ge K 9 23 dX3_begins_6 rfl (by decide) (fun _ => ?_) (fun _ => ?_)
    · refine g_sub (ls' := [(0, .ref a), (2, .int x2), (3, .int x3)]) [0, 2, 3] rfl ?_
      exact h3 j11.2
    · refine g_aloadn K 0 rfl rfl 10 dX3_begins_9 rfl ?_
      refine gx_get K hK hsh 0 (v := .ref (a + 1)) 13 in_X3 ha rfl (Nat.le_of_ble_eq_true rfl) rfl (by decide) (Or.inl q252) rfl dX3_begins_10 rfl ?_
      refine g_iload K 4 rfl 15 dX3_begins_13 rfl ?_
      refine g_iloadn K 1 rfl rfl 16 dX3_begins_15 rfl ?_
      refine gx_ast K hK hsh 17 (sh_3_wall hsh ha) dX3_begins_16 rfl (fun I14 => ?_)
      refine g_iinc K (j11.1 + (nI 1)) 4 [(0, .ref a), (1, .int x1), (2, .int x2), (3, .int x3), (4, .int (j11.1 + (nI 1)))] [1, 2, 3, 4, 0] rfl (by rw [ic_1]) (by decide) rfl 20 dX3_begins_17 rfl ?_
      refine g_goto K 3 dX3_begins_20 (by decide) ?_
      exact h13 ((j11.1 + (nI 1)), I14)
/-- GingerRents$House.sum()I -/
def x3_sum (I : Mem) (a : Nat) : Option (Int32) :=
  lp (fun again2 (j1 : Int32 × Int32) =>
  if (nI 4) ≤ j1.2 then
  some j1.1
  else
  (rd I (a + 1) 4 j1.2).bind fun v4 =>
  again2 ((j1.1 + v4), (j1.2 + (nI 1)))) fuel ((nI 0), (nI 0))
theorem wd_x3_sum : yX3_sum.cls = RX3 ∧ yX3_sum.cls ≠ "java/lang/invoke/MethodHandle" ∧ yX3_sum.cls ≠ "java/lang/invoke/VarHandle" ∧ (parseMethodDescriptor yX3_sum.desc).map (fun d => d.parameters.length) = some 0 := by decide +kernel
set_option maxRecDepth 100000 in
theorem ctx_x3_sum {cs : Cs} {z : Nat} {kd : Kd} (P : Ptr) (I : Mem) (a : Nat) (ha : kd a = (3, 0, 0)) : CtX cs z kd yX3_sum cX3_sum 6 (some .int) 0 0 [.ref a] (P, I) (fun r => (some (.int r), (P, I))) (x3_sum I a) := by
  refine CtX.of RX3 (by decide) rfl (Nat.le_of_ble_eq_true rfl) ?_
  intro l D sz p e s m args below meth c hsh K hr hlk hK
  refine g_sub (ls' := [(0, .ref a)]) [0] rfl ?_
  unfold x3_sum
  refine g_iconst K (nI 0) ic_0 1 dX3_sum_0 rfl ?_
  refine g_istoren K [(0, .ref a), (1, .int (nI 0))] [1, 0] rfl (by decide) rfl 2 dX3_sum_1 rfl ?_
  refine g_aloadn K 0 rfl rfl 3 dX3_sum_2 rfl ?_
  refine gx_get K hK hsh 0 (v := .ref (a + 1)) 6 in_X3 ha rfl (Nat.le_of_ble_eq_true rfl) rfl (by decide) (Or.inl q252) rfl dX3_sum_3 rfl ?_
  refine g_astoren K [(0, .ref a), (1, .int (nI 0)), (2, .ref (a + 1))] [1, 2, 0] rfl (by decide) rfl 7 dX3_sum_6 rfl ?_
  refine g_aloadn K 2 rfl rfl 8 dX3_sum_7 rfl ?_
  refine gx_len K hK hsh 9 (sh_3_wall hsh ha) (by decide) dX3_sum_8 rfl ?_
  refine g_istoren K [(0, .ref a), (1, .int (nI 0)), (2, .ref (a + 1)), (3, .int (nI 4))] [1, 2, 3, 0] rfl (by decide) rfl 10 dX3_sum_9 rfl ?_
  refine g_iconst K (nI 0) ic_0 11 dX3_sum_10 rfl ?_
  refine g_istore K [(0, .ref a), (1, .int (nI 0)), (2, .ref (a + 1)), (3, .int (nI 4)), (4, .int (nI 0))] [1, 2, 3, 4, 0] (by decide) rfl 13 dX3_sum_11 rfl ?_
  refine g_lp (head := 13) (L := fun j1 => [(0, .ref a), (1, .int j1.1), (2, .ref (a + 1)), (3, .int (nI 4)), (4, .int j1.2)]) (sf := fun j1 => []) (mf := fun j1 => (P, I)) (fun again2 h3 j1 => ?_) fuel ((nI 0), (nI 0))
  try dsimp only
  refine g_iload K 4 rfl 15 dX3_sum_13 rfl ?_
  refine g_iloadn K 3 rfl rfl 16 dX3_sum_15 rfl ?_
  refine g_icmp_ge K 19 36 dX3_sum_16 rfl (by decide) (fun _ => ?_) (fun _ => ?_)
  · refine g_iloadn K 1 rfl rfl 37 dX3_sum_36 rfl ?_
    exact gx_iret K hK hsh hr hlk dX3_sum_37 rfl
  · refine g_aloadn K 2 rfl rfl 20 dX3_sum_19 rfl ?_
    refine g_iload K 4 rfl 22 dX3_sum_20 rfl ?_
    refine gx_ald K hK hsh 23 (sh_3_wall hsh ha) dX3_sum_22 rfl (fun v4 => ?_)
    refine g_istore K [(0, .ref a), (1, .int j1.1), (2, .ref (a + 1)), (3, .int (nI 4)), (4, .int j1.2), (5, .int v4)] [1, 2, 3, 4, 5, 0] (by decide) rfl 25 dX3_sum_23 rfl ?_
    refine g_iloadn K 1 rfl rfl 26 dX3_sum_25 rfl ?_
    refine g_iload K 5 rfl 28 dX3_sum_26 rfl ?_
    refine g_iadd K 29 dX3_sum_28 rfl ?_
    refine g_istoren K [(0, .ref a), (1, .int (j1.1 + v4)), (2, .ref (a + 1)), (3, .int (nI 4)), (4, .int j1.2)] [1, 0, 2, 3, 4] rfl (by decide) rfl 30 dX3_sum_29 rfl ?_
    refine g_iinc K (j1.2 + (nI 1)) 4 [(0, .ref a), (1, .int (j1.1 + v4)), (2, .ref (a + 1)), (3, .int (nI 4)), (4, .int (j1.2 + (nI 1)))] [1, 2, 3, 4, 0] rfl (by rw [ic_1]) (by decide) rfl 33 dX3_sum_30 rfl ?_
    refine g_goto K 13 dX3_sum_33 (by decide) ?_
    exact h3 ((j1.1 + v4), (j1.2 + (nI 1)))
/-- GingerRents$House.stands()Z -/
def x3_stands (I : Mem) (a : Nat) : Option (Bool) :=
  (x3_sum I a).bind fun r1 =>
  if r1 ≤ 0 then
  some false
  else
  some true
theorem wd_x3_stands : yX3_stands.cls = RX3 ∧ yX3_stands.cls ≠ "java/lang/invoke/MethodHandle" ∧ yX3_stands.cls ≠ "java/lang/invoke/VarHandle" ∧ (parseMethodDescriptor yX3_stands.desc).map (fun d => d.parameters.length) = some 0 := by decide +kernel
set_option maxRecDepth 100000 in
theorem ctx_x3_stands {cs : Cs} {z : Nat} {kd : Kd} (P : Ptr) (I : Mem) (a : Nat) (ha : kd a = (3, 0, 0)) : CtX cs z kd yX3_stands cX3_stands 1 (some .boolean) 1 25 [.ref a] (P, I) (fun r => (some (.int (bI r)), (P, I))) (x3_stands I a) := by
  refine CtX.of RX3 (by decide) rfl (Nat.le_of_ble_eq_true rfl) ?_
  intro l D sz p e s m args below meth c hsh K hr hlk hK
  refine g_sub (ls' := [(0, .ref a)]) [0] rfl ?_
  unfold x3_stands
  refine g_aloadn K 0 rfl rfl 1 dX3_stands_0 rfl ?_
  refine gx_call K hK hsh 4 (ctx_x3_sum P I a ha) (lw_V q1040 q1041 q1042 q157 q1043) wd_x3_sum ha rfl (Nat.le_of_ble_eq_true rfl) rfl (by decide) rfl (Nat.le_of_ble_eq_true rfl) dX3_stands_1 rfl (fun r1 hr2 => ?_)
  refine g_if_le K 7 11 dX3_stands_4 rfl (by decide) (fun _ => ?_) (fun _ => ?_)
  · refine g_iconst K (nI 0) ic_0 12 dX3_stands_11 rfl ?_
    exact gx_zret K hK hsh hr hlk (b := false) dX3_stands_12 rfl rfl
  · refine g_iconst K (nI 1) ic_1 8 dX3_stands_7 rfl ?_
    refine g_goto K 12 dX3_stands_8 (by decide) ?_
    exact gx_zret K hK hsh hr hlk (b := true) dX3_stands_12 rfl rfl
/-- GingerRents$House.thickest()I -/
def x3_thickest (I : Mem) (a : Nat) : Option (Int32) :=
  lp (fun again2 (j1 : Int32 × Int32) =>
  if (nI 4) ≤ j1.2 then
  some j1.1
  else
  (rd I (a + 1) 4 j1.2).bind fun v4 =>
  (rd I (a + 1) 4 j1.1).bind fun v5 =>
  jn (fun (j6 : Int32) =>
  again2 (j6, (j1.2 + (nI 1)))) (fun k7 =>
  if v4 ≤ v5 then
  k7 j1.1
  else
  k7 j1.2)) fuel ((nI 0), (nI 1))
theorem wd_x3_thickest : yX3_thickest.cls = RX3 ∧ yX3_thickest.cls ≠ "java/lang/invoke/MethodHandle" ∧ yX3_thickest.cls ≠ "java/lang/invoke/VarHandle" ∧ (parseMethodDescriptor yX3_thickest.desc).map (fun d => d.parameters.length) = some 0 := by decide +kernel
set_option maxRecDepth 100000 in
theorem ctx_x3_thickest {cs : Cs} {z : Nat} {kd : Kd} (P : Ptr) (I : Mem) (a : Nat) (ha : kd a = (3, 0, 0)) : CtX cs z kd yX3_thickest cX3_thickest 3 (some .int) 0 0 [.ref a] (P, I) (fun r => (some (.int r), (P, I))) (x3_thickest I a) := by
  refine CtX.of RX3 (by decide) rfl (Nat.le_of_ble_eq_true rfl) ?_
  intro l D sz p e s m args below meth c hsh K hr hlk hK
  refine g_sub (ls' := [(0, .ref a)]) [0] rfl ?_
  unfold x3_thickest
  refine g_iconst K (nI 0) ic_0 1 dX3_thickest_0 rfl ?_
  refine g_istoren K [(0, .ref a), (1, .int (nI 0))] [1, 0] rfl (by decide) rfl 2 dX3_thickest_1 rfl ?_
  refine g_iconst K (nI 1) ic_1 3 dX3_thickest_2 rfl ?_
  refine g_istoren K [(0, .ref a), (1, .int (nI 0)), (2, .int (nI 1))] [1, 2, 0] rfl (by decide) rfl 4 dX3_thickest_3 rfl ?_
  refine g_lp (head := 4) (L := fun j1 => [(0, .ref a), (1, .int j1.1), (2, .int j1.2)]) (sf := fun j1 => []) (mf := fun j1 => (P, I)) (fun again2 h3 j1 => ?_) fuel ((nI 0), (nI 1))
  try dsimp only
  refine g_iloadn K 2 rfl rfl 5 dX3_thickest_4 rfl ?_
  refine g_iconst K (nI 4) ic_4 6 dX3_thickest_5 rfl ?_
  refine g_icmp_ge K 9 36 dX3_thickest_6 rfl (by decide) (fun _ => ?_) (fun _ => ?_)
  · refine g_iloadn K 1 rfl rfl 37 dX3_thickest_36 rfl ?_
    exact gx_iret K hK hsh hr hlk dX3_thickest_37 rfl
  · refine g_aloadn K 0 rfl rfl 10 dX3_thickest_9 rfl ?_
    refine gx_get K hK hsh 0 (v := .ref (a + 1)) 13 in_X3 ha rfl (Nat.le_of_ble_eq_true rfl) rfl (by decide) (Or.inl q252) rfl dX3_thickest_10 rfl ?_
    refine g_iloadn K 2 rfl rfl 14 dX3_thickest_13 rfl ?_
    refine gx_ald K hK hsh 15 (sh_3_wall hsh ha) dX3_thickest_14 rfl (fun v4 => ?_)
    refine g_aloadn K 0 rfl rfl 16 dX3_thickest_15 rfl ?_
    refine gx_get K hK hsh 0 (v := .ref (a + 1)) 19 in_X3 ha rfl (Nat.le_of_ble_eq_true rfl) rfl (by decide) (Or.inl q252) rfl dX3_thickest_16 rfl ?_
    refine g_iloadn K 1 rfl rfl 20 dX3_thickest_19 rfl ?_
    refine gx_ald K hK hsh 21 (sh_3_wall hsh ha) dX3_thickest_20 rfl (fun v5 => ?_)
    refine g_jn (head := 29) (L := fun j6 => [(0, .ref a), (2, .int j1.2)]) (sf := fun j6 => [.int j6]) (mf := fun j6 => (P, I)) (fun j6 => ?_) (fun k7 h8 => ?_)
    · try dsimp only
      refine g_istoren K [(0, .ref a), (1, .int j6), (2, .int j1.2)] [1, 0, 2] rfl (by decide) rfl 30 dX3_thickest_29 rfl ?_
      refine g_iinc K (j1.2 + (nI 1)) 2 [(0, .ref a), (1, .int j6), (2, .int (j1.2 + (nI 1)))] [1, 2, 0] rfl (by rw [ic_1]) (by decide) rfl 33 dX3_thickest_30 rfl ?_
      refine g_goto K 4 dX3_thickest_33 (by decide) ?_
      exact h3 (j6, (j1.2 + (nI 1)))
    · refine g_icmp_le K 24 28 dX3_thickest_21 rfl (by decide) (fun _ => ?_) (fun _ => ?_)
      · refine g_iloadn K 1 rfl rfl 29 dX3_thickest_28 rfl ?_
        refine g_sub (ls' := [(0, .ref a), (2, .int j1.2)]) [0, 2] rfl ?_
        exact h8 j1.1
      · refine g_iloadn K 2 rfl rfl 25 dX3_thickest_24 rfl ?_
        refine g_goto K 29 dX3_thickest_25 (by decide) ?_
        refine g_sub (ls' := [(0, .ref a), (2, .int j1.2)]) [0, 2] rfl ?_
        exact h8 j1.2
/-- GingerRents$House.loses(II)I -/
def x3_loses (I : Mem) (a : Nat) (x1 : Int32) (x2 : Int32) : Option (Int32 × Mem) :=
  (rd I (a + 1) 4 x1).bind fun v1 =>
  (rd I (a + 1) 4 x1).bind fun v2 =>
  (wr I (a + 1) 4 x1 (v2 - (imin x2 v1))).bind fun I3 =>
  some ((imin x2 v1), I3)
theorem wd_x3_loses : yX3_loses.cls = RX3 ∧ yX3_loses.cls ≠ "java/lang/invoke/MethodHandle" ∧ yX3_loses.cls ≠ "java/lang/invoke/VarHandle" ∧ (parseMethodDescriptor yX3_loses.desc).map (fun d => d.parameters.length) = some 2 := by decide +kernel
set_option maxRecDepth 100000 in
theorem ctx_x3_loses {cs : Cs} {z : Nat} {kd : Kd} (P : Ptr) (I : Mem) (a : Nat) (x1 : Int32) (x2 : Int32) (ha : kd a = (3, 0, 0)) : CtX cs z kd yX3_loses cX3_loses 4 (some .int) 1 21 [.ref a, .int x1, .int x2] (P, I) (fun r => (some (.int r.1), (P, r.2))) (x3_loses I a x1 x2) := by
  refine CtX.of RX3 (by decide) rfl (Nat.le_of_ble_eq_true rfl) ?_
  intro l D sz p e s m args below meth c hsh K hr hlk hK
  refine g_sub (ls' := [(0, .ref a), (1, .int x1), (2, .int x2)]) [0, 1, 2] rfl ?_
  unfold x3_loses
  refine g_iloadn K 2 rfl rfl 1 dX3_loses_0 rfl ?_
  refine g_aloadn K 0 rfl rfl 2 dX3_loses_1 rfl ?_
  refine gx_get K hK hsh 0 (v := .ref (a + 1)) 5 in_X3 ha rfl (Nat.le_of_ble_eq_true rfl) rfl (by decide) (Or.inl q252) rfl dX3_loses_2 rfl ?_
  refine g_iloadn K 1 rfl rfl 6 dX3_loses_5 rfl ?_
  refine gx_ald K hK hsh 7 (sh_3_wall hsh ha) dX3_loses_6 rfl (fun v1 => ?_)
  refine g_mmin K 10 q1061 q878 q159 q879 (by decide) (Nat.le_of_ble_eq_true rfl) dX3_loses_7 rfl ?_
  refine g_istoren K [(0, .ref a), (1, .int x1), (3, .int (imin x2 v1))] [1, 2, 0] rfl (by decide) rfl 11 dX3_loses_10 rfl ?_
  refine g_aloadn K 0 rfl rfl 12 dX3_loses_11 rfl ?_
  refine gx_get K hK hsh 0 (v := .ref (a + 1)) 15 in_X3 ha rfl (Nat.le_of_ble_eq_true rfl) rfl (by decide) (Or.inl q252) rfl dX3_loses_12 rfl ?_
  refine g_iloadn K 1 rfl rfl 16 dX3_loses_15 rfl ?_
  refine g_dup2 K rfl rfl 17 dX3_loses_16 rfl ?_
  refine gx_ald K hK hsh 18 (sh_3_wall hsh ha) dX3_loses_17 rfl (fun v2 => ?_)
  refine g_iloadn K 2 rfl rfl 19 dX3_loses_18 rfl ?_
  refine g_isub K 20 dX3_loses_19 rfl ?_
  refine gx_ast K hK hsh 21 (sh_3_wall hsh ha) dX3_loses_20 rfl (fun I3 => ?_)
  refine g_iloadn K 2 rfl rfl 22 dX3_loses_21 rfl ?_
  exact gx_iret K hK hsh hr hlk dX3_loses_22 rfl
/-- GingerRents$House.bakes(II)V -/
def x3_bakes (I : Mem) (a : Nat) (x1 : Int32) (x2 : Int32) : Option (Mem) :=
  (rd I (a + 1) 4 x1).bind fun v1 =>
  (wr I (a + 1) 4 x1 (imin (nI 99) (v1 + x2))).bind fun I2 =>
  some I2
theorem wd_x3_bakes : yX3_bakes.cls = RX3 ∧ yX3_bakes.cls ≠ "java/lang/invoke/MethodHandle" ∧ yX3_bakes.cls ≠ "java/lang/invoke/VarHandle" ∧ (parseMethodDescriptor yX3_bakes.desc).map (fun d => d.parameters.length) = some 2 := by decide +kernel
set_option maxRecDepth 100000 in
theorem ctx_x3_bakes {cs : Cs} {z : Nat} {kd : Kd} (P : Ptr) (I : Mem) (a : Nat) (x1 : Int32) (x2 : Int32) (ha : kd a = (3, 0, 0)) : CtX cs z kd yX3_bakes cX3_bakes 3 none 1 21 [.ref a, .int x1, .int x2] (P, I) (fun r => (none, (P, r))) (x3_bakes I a x1 x2) := by
  refine CtX.of RX3 (by decide) rfl (Nat.le_of_ble_eq_true rfl) ?_
  intro l D sz p e s m args below meth c hsh K hr hlk hK
  refine g_sub (ls' := [(0, .ref a), (1, .int x1), (2, .int x2)]) [0, 1, 2] rfl ?_
  unfold x3_bakes
  refine g_aloadn K 0 rfl rfl 1 dX3_bakes_0 rfl ?_
  refine gx_get K hK hsh 0 (v := .ref (a + 1)) 4 in_X3 ha rfl (Nat.le_of_ble_eq_true rfl) rfl (by decide) (Or.inl q252) rfl dX3_bakes_1 rfl ?_
  refine g_iloadn K 1 rfl rfl 5 dX3_bakes_4 rfl ?_
  refine g_bipush K (nI 99) bp_99 7 dX3_bakes_5 rfl ?_
  refine g_aloadn K 0 rfl rfl 8 dX3_bakes_7 rfl ?_
  refine gx_get K hK hsh 0 (v := .ref (a + 1)) 11 in_X3 ha rfl (Nat.le_of_ble_eq_true rfl) rfl (by decide) (Or.inl q252) rfl dX3_bakes_8 rfl ?_
  refine g_iloadn K 1 rfl rfl 12 dX3_bakes_11 rfl ?_
  refine gx_ald K hK hsh 13 (sh_3_wall hsh ha) dX3_bakes_12 rfl (fun v1 => ?_)
  refine g_iloadn K 2 rfl rfl 14 dX3_bakes_13 rfl ?_
  refine g_iadd K 15 dX3_bakes_14 rfl ?_
  refine g_mmin K 18 q1061 q878 q159 q879 (by decide) (Nat.le_of_ble_eq_true rfl) dX3_bakes_15 rfl ?_
  refine gx_ast K hK hsh 19 (sh_3_wall hsh ha) dX3_bakes_18 rfl (fun I2 => ?_)
  exact gx_vret K hK hsh hr hlk dX3_bakes_19 rfl
/-- GingerRents$Rows.ends()I -/
def x2_ends (I : Mem) (a len : Nat) : Option (Int32 × Mem) :=
  nm (up2 I a 1 (nI 0)) fun I1 =>
  some ((nI 0), I1)
theorem wd_x2_ends : yX2_ends.cls = RX2 ∧ yX2_ends.cls ≠ "java/lang/invoke/MethodHandle" ∧ yX2_ends.cls ≠ "java/lang/invoke/VarHandle" ∧ (parseMethodDescriptor yX2_ends.desc).map (fun d => d.parameters.length) = some 0 := by decide +kernel
set_option maxRecDepth 100000 in
theorem ctx_x2_ends {cs : Cs} {z : Nat} {kd : Kd} (P : Ptr) (I : Mem) (a len : Nat) (ha : kd a = (2, len, 0)) : CtX cs z kd yX2_ends cX2_ends 1 (some .int) 0 0 [.ref a] (P, I) (fun r => (some (.int r.1), (P, r.2))) (x2_ends I a len) := by
  refine CtX.of RX2 (by decide) rfl (Nat.le_of_ble_eq_true rfl) ?_
  intro l D sz p e s m args below meth c hsh K hr hlk hK
  refine g_sub (ls' := [(0, .ref a)]) [0] rfl ?_
  unfold x2_ends
  refine g_aloadn K 0 rfl rfl 1 dX2_ends_0 rfl ?_
  refine g_iconst K (nI 0) ic_0 2 dX2_ends_1 rfl ?_
  refine gx_put K hK hsh 1 (ty := .int) 5 in_X2 tyX2 tyX2_ok nmX2 ha rfl rfl (Nat.le_of_ble_eq_true rfl) rfl (by decide) (Or.inl q212) rfl (by decide +kernel) rfl rfl (Nat.le_of_ble_eq_true rfl) dX2_ends_2 rfl (fun I1 _ => ?_)
  refine g_iconst K (nI 0) ic_0 6 dX2_ends_5 rfl ?_
  exact gx_iret K hK hsh hr hlk dX2_ends_6 rfl
/-- GingerRents$Rows.tells(II)I -/
def x2_tells (I : Mem) (a len : Nat) (x1 : Int32) (x2 : Int32) : Option (Int32 × Mem) :=
  if (I a 1) = (nI len) then
  some ((-1 : Int32), I)
  else
  (ix len (I a 1)).bind fun i1 =>
  (wr I (a + 2 + i1) 2 (nI 0) x1).bind fun I3 =>
  (ix len (I3 a 1)).bind fun i4 =>
  (wr I3 (a + 2 + i4) 2 (nI 1) x2).bind fun I6 =>
  nm (up2 I6 a 1 ((I6 a 1) + (nI 1))) fun I7 =>
  some ((I7 a 1), I7)
theorem wd_x2_tells : yX2_tells.cls = RX2 ∧ yX2_tells.cls ≠ "java/lang/invoke/MethodHandle" ∧ yX2_tells.cls ≠ "java/lang/invoke/VarHandle" ∧ (parseMethodDescriptor yX2_tells.desc).map (fun d => d.parameters.length) = some 2 := by decide +kernel
set_option maxRecDepth 100000 in
theorem ctx_x2_tells {cs : Cs} {z : Nat} {kd : Kd} (P : Ptr) (I : Mem) (a len : Nat) (x1 : Int32) (x2 : Int32) (ha : kd a = (2, len, 0)) : CtX cs z kd yX2_tells cX2_tells 3 (some .int) 0 0 [.ref a, .int x1, .int x2] (P, I) (fun r => (some (.int r.1), (P, r.2))) (x2_tells I a len x1 x2) := by
  refine CtX.of RX2 (by decide) rfl (Nat.le_of_ble_eq_true rfl) ?_
  intro l D sz p e s m args below meth c hsh K hr hlk hK
  refine g_sub (ls' := [(0, .ref a), (1, .int x1), (2, .int x2)]) [0, 1, 2] rfl ?_
  unfold x2_tells
  refine g_aloadn K 0 rfl rfl 1 dX2_tells_0 rfl ?_
  refine gx_get K hK hsh 1 (v := .int (I a 1)) 4 in_X2 ha rfl (Nat.le_of_ble_eq_true rfl) rfl (by decide) (Or.inl q212) rfl dX2_tells_1 rfl ?_
  refine g_aloadn K 0 rfl rfl 5 dX2_tells_4 rfl ?_
  refine gx_get K hK hsh 0 (v := .ref (a + 1)) 8 in_X2 ha rfl (Nat.le_of_ble_eq_true rfl) rfl (by decide) (Or.inl q211) rfl dX2_tells_5 rfl ?_
  refine gx_len K hK hsh 9 (sh_2_row hsh ha) (by decide) dX2_tells_8 rfl ?_
  refine g_icmp_ne K 12 14 dX2_tells_9 rfl (by decide) (fun _ => ?_) (fun _ => ?_)
  · refine g_iconst K (-1 : Int32) ic_m1 13 dX2_tells_12 rfl ?_
    exact gx_iret K hK hsh hr hlk dX2_tells_13 rfl
  · refine g_aloadn K 0 rfl rfl 15 dX2_tells_14 rfl ?_
    refine gx_get K hK hsh 0 (v := .ref (a + 1)) 18 in_X2 ha rfl (Nat.le_of_ble_eq_true rfl) rfl (by decide) (Or.inl q211) rfl dX2_tells_15 rfl ?_
    refine g_aloadn K 0 rfl rfl 19 dX2_tells_18 rfl ?_
    refine gx_get K hK hsh 1 (v := .int (I a 1)) 22 in_X2 ha rfl (Nat.le_of_ble_eq_true rfl) rfl (by decide) (Or.inl q212) rfl dX2_tells_19 rfl ?_
    refine gx_aal K hK hsh 23 (sh_2_row hsh ha) dX2_tells_22 rfl (fun i1 hi2 => ?_)
    refine g_iconst K (nI 0) ic_0 24 dX2_tells_23 rfl ?_
    refine g_iloadn K 1 rfl rfl 25 dX2_tells_24 rfl ?_
    refine gx_ast K hK hsh 26 (sh_22 hsh (sh_2_row hsh ha) hi2) dX2_tells_25 rfl (fun I3 => ?_)
    refine g_aloadn K 0 rfl rfl 27 dX2_tells_26 rfl ?_
    refine gx_get K hK hsh 0 (v := .ref (a + 1)) 30 in_X2 ha rfl (Nat.le_of_ble_eq_true rfl) rfl (by decide) (Or.inl q211) rfl dX2_tells_27 rfl ?_
    refine g_aloadn K 0 rfl rfl 31 dX2_tells_30 rfl ?_
    refine gx_get K hK hsh 1 (v := .int (I3 a 1)) 34 in_X2 ha rfl (Nat.le_of_ble_eq_true rfl) rfl (by decide) (Or.inl q212) rfl dX2_tells_31 rfl ?_
    refine gx_aal K hK hsh 35 (sh_2_row hsh ha) dX2_tells_34 rfl (fun i4 hi5 => ?_)
    refine g_iconst K (nI 1) ic_1 36 dX2_tells_35 rfl ?_
    refine g_iloadn K 2 rfl rfl 37 dX2_tells_36 rfl ?_
    refine gx_ast K hK hsh 38 (sh_22 hsh (sh_2_row hsh ha) hi5) dX2_tells_37 rfl (fun I6 => ?_)
    refine g_aloadn K 0 rfl rfl 39 dX2_tells_38 rfl ?_
    refine g_dup K rfl 40 dX2_tells_39 rfl ?_
    refine gx_get K hK hsh 1 (v := .int (I6 a 1)) 43 in_X2 ha rfl (Nat.le_of_ble_eq_true rfl) rfl (by decide) (Or.inl q212) rfl dX2_tells_40 rfl ?_
    refine g_iconst K (nI 1) ic_1 44 dX2_tells_43 rfl ?_
    refine g_iadd K 45 dX2_tells_44 rfl ?_
    refine gx_put K hK hsh 1 (ty := .int) 48 in_X2 tyX2 tyX2_ok nmX2 ha rfl rfl (Nat.le_of_ble_eq_true rfl) rfl (by decide) (Or.inl q212) rfl (by decide +kernel) rfl rfl (Nat.le_of_ble_eq_true rfl) dX2_tells_45 rfl (fun I7 _ => ?_)
    refine g_aloadn K 0 rfl rfl 49 dX2_tells_48 rfl ?_
    refine gx_get K hK hsh 1 (v := .int (I7 a 1)) 52 in_X2 ha rfl (Nat.le_of_ble_eq_true rfl) rfl (by decide) (Or.inl q212) rfl dX2_tells_49 rfl ?_
    exact gx_iret K hK hsh hr hlk dX2_tells_52 rfl
/-- GingerRents$Rows.first(I)I -/
def x2_first (I : Mem) (a len : Nat) (x1 : Int32) : Option (Int32) :=
  (ix len x1).bind fun i1 =>
  (rd I (a + 2 + i1) 2 (nI 0)).bind fun v3 =>
  some v3
theorem wd_x2_first : yX2_first.cls = RX2 ∧ yX2_first.cls ≠ "java/lang/invoke/MethodHandle" ∧ yX2_first.cls ≠ "java/lang/invoke/VarHandle" ∧ (parseMethodDescriptor yX2_first.desc).map (fun d => d.parameters.length) = some 1 := by decide +kernel
set_option maxRecDepth 100000 in
theorem ctx_x2_first {cs : Cs} {z : Nat} {kd : Kd} (P : Ptr) (I : Mem) (a len : Nat) (x1 : Int32) (ha : kd a = (2, len, 0)) : CtX cs z kd yX2_first cX2_first 2 (some .int) 0 0 [.ref a, .int x1] (P, I) (fun r => (some (.int r), (P, I))) (x2_first I a len x1) := by
  refine CtX.of RX2 (by decide) rfl (Nat.le_of_ble_eq_true rfl) ?_
  intro l D sz p e s m args below meth c hsh K hr hlk hK
  refine g_sub (ls' := [(0, .ref a), (1, .int x1)]) [0, 1] rfl ?_
  unfold x2_first
  refine g_aloadn K 0 rfl rfl 1 dX2_first_0 rfl ?_
  refine gx_get K hK hsh 0 (v := .ref (a + 1)) 4 in_X2 ha rfl (Nat.le_of_ble_eq_true rfl) rfl (by decide) (Or.inl q211) rfl dX2_first_1 rfl ?_
  refine g_iloadn K 1 rfl rfl 5 dX2_first_4 rfl ?_
  refine gx_aal K hK hsh 6 (sh_2_row hsh ha) dX2_first_5 rfl (fun i1 hi2 => ?_)
  refine g_iconst K (nI 0) ic_0 7 dX2_first_6 rfl ?_
  refine gx_ald K hK hsh 8 (sh_22 hsh (sh_2_row hsh ha) hi2) dX2_first_7 rfl (fun v3 => ?_)
  exact gx_iret K hK hsh hr hlk dX2_first_8 rfl
/-- GingerRents$Rows.second(I)I -/
def x2_second (I : Mem) (a len : Nat) (x1 : Int32) : Option (Int32) :=
  (ix len x1).bind fun i1 =>
  (rd I (a + 2 + i1) 2 (nI 1)).bind fun v3 =>
  some v3
theorem wd_x2_second : yX2_second.cls = RX2 ∧ yX2_second.cls ≠ "java/lang/invoke/MethodHandle" ∧ yX2_second.cls ≠ "java/lang/invoke/VarHandle" ∧ (parseMethodDescriptor yX2_second.desc).map (fun d => d.parameters.length) = some 1 := by decide +kernel
set_option maxRecDepth 100000 in
theorem ctx_x2_second {cs : Cs} {z : Nat} {kd : Kd} (P : Ptr) (I : Mem) (a len : Nat) (x1 : Int32) (ha : kd a = (2, len, 0)) : CtX cs z kd yX2_second cX2_second 2 (some .int) 0 0 [.ref a, .int x1] (P, I) (fun r => (some (.int r), (P, I))) (x2_second I a len x1) := by
  refine CtX.of RX2 (by decide) rfl (Nat.le_of_ble_eq_true rfl) ?_
  intro l D sz p e s m args below meth c hsh K hr hlk hK
  refine g_sub (ls' := [(0, .ref a), (1, .int x1)]) [0, 1] rfl ?_
  unfold x2_second
  refine g_aloadn K 0 rfl rfl 1 dX2_second_0 rfl ?_
  refine gx_get K hK hsh 0 (v := .ref (a + 1)) 4 in_X2 ha rfl (Nat.le_of_ble_eq_true rfl) rfl (by decide) (Or.inl q211) rfl dX2_second_1 rfl ?_
  refine g_iloadn K 1 rfl rfl 5 dX2_second_4 rfl ?_
  refine gx_aal K hK hsh 6 (sh_2_row hsh ha) dX2_second_5 rfl (fun i1 hi2 => ?_)
  refine g_iconst K (nI 1) ic_1 7 dX2_second_6 rfl ?_
  refine gx_ald K hK hsh 8 (sh_22 hsh (sh_2_row hsh ha) hi2) dX2_second_7 rfl (fun v3 => ?_)
  exact gx_iret K hK hsh hr hlk dX2_second_8 rfl
/-- GingerRents$Rows.takes(LGingerRents$Rows;)V -/
def x2_takes (I : Mem) (a len : Nat) (x1 len1 : Nat) : Option (Mem) :=
  nm (up2 I a 1 (I x1 1)) fun I1 =>
  lp (fun again3 (j2 : Int32 × Mem) =>
  if (j2.2 a 1) ≤ j2.1 then
  some j2.2
  else
  lp (fun again6 (j5 : Int32 × Mem) =>
  if (nI 2) ≤ j5.1 then
  again3 ((j2.1 + (nI 1)), j5.2)
  else
  (ix len j2.1).bind fun i8 =>
  (ix len1 j2.1).bind fun i10 =>
  (rd j5.2 (x1 + 2 + i10) 2 j5.1).bind fun v12 =>
  (wr j5.2 (a + 2 + i8) 2 j5.1 v12).bind fun I13 =>
  again6 ((j5.1 + (nI 1)), I13)) fuel ((nI 0), j2.2)) fuel ((nI 0), I1)
theorem wd_x2_takes : yX2_takes.cls = RX2 ∧ yX2_takes.cls ≠ "java/lang/invoke/MethodHandle" ∧ yX2_takes.cls ≠ "java/lang/invoke/VarHandle" ∧ (parseMethodDescriptor yX2_takes.desc).map (fun d => d.parameters.length) = some 1 := by decide +kernel
set_option maxRecDepth 100000 in
theorem ctx_x2_takes {cs : Cs} {z : Nat} {kd : Kd} (P : Ptr) (I : Mem) (a len : Nat) (x1 len1 : Nat) (ha : kd a = (2, len, 0)) (hx1 : kd x1 = (2, len1, 0)) : CtX cs z kd yX2_takes cX2_takes 4 none 0 0 [.ref a, .ref x1] (P, I) (fun r => (none, (P, r))) (x2_takes I a len x1 len1) := by
  refine CtX.of RX2 (by decide) rfl (Nat.le_of_ble_eq_true rfl) ?_
  intro l D sz p e s m args below meth c hsh K hr hlk hK
  refine g_sub (ls' := [(0, .ref a), (1, .ref x1)]) [0, 1] rfl ?_
  unfold x2_takes
  refine g_aloadn K 0 rfl rfl 1 dX2_takes_0 rfl ?_
  refine g_aloadn K 1 rfl rfl 2 dX2_takes_1 rfl ?_
  refine gx_get K hK hsh 1 (v := .int (I x1 1)) 5 in_X2 hx1 rfl (Nat.le_of_ble_eq_true rfl) rfl (by decide) (Or.inl q212) rfl dX2_takes_2 rfl ?_
  refine gx_put K hK hsh 1 (ty := .int) 8 in_X2 tyX2 tyX2_ok nmX2 ha rfl rfl (Nat.le_of_ble_eq_true rfl) rfl (by decide) (Or.inl q212) rfl (by decide +kernel) rfl rfl (Nat.le_of_ble_eq_true rfl) dX2_takes_5 rfl (fun I1 _ => ?_)
  refine g_iconst K (nI 0) ic_0 9 dX2_takes_8 rfl ?_
  refine g_istoren K [(0, .ref a), (1, .ref x1), (2, .int (nI 0))] [1, 2, 0] rfl (by decide) rfl 10 dX2_takes_9 rfl ?_
  refine g_lp (head := 10) (L := fun j2 => [(0, .ref a), (1, .ref x1), (2, .int j2.1)]) (sf := fun j2 => []) (mf := fun j2 => (P, j2.2)) (fun again3 h4 j2 => ?_) fuel ((nI 0), I1)
  try dsimp only
  refine g_iloadn K 2 rfl rfl 11 dX2_takes_10 rfl ?_
  refine g_aloadn K 0 rfl rfl 12 dX2_takes_11 rfl ?_
  refine gx_get K hK hsh 1 (v := .int (j2.2 a 1)) 15 in_X2 ha rfl (Nat.le_of_ble_eq_true rfl) rfl (by decide) (Or.inl q212) rfl dX2_takes_12 rfl ?_
  refine g_icmp_ge K 18 53 dX2_takes_15 rfl (by decide) (fun _ => ?_) (fun _ => ?_)
  · exact gx_vret K hK hsh hr hlk dX2_takes_53 rfl
  · refine g_iconst K (nI 0) ic_0 19 dX2_takes_18 rfl ?_
    refine g_istoren K [(0, .ref a), (1, .ref x1), (2, .int j2.1), (3, .int (nI 0))] [1, 2, 3, 0] rfl (by decide) rfl 20 dX2_takes_19 rfl ?_
    refine g_lp (head := 20) (L := fun j5 => [(0, .ref a), (1, .ref x1), (2, .int j2.1), (3, .int j5.1)]) (sf := fun j5 => []) (mf := fun j5 => (P, j5.2)) (fun again6 h7 j5 => ?_) fuel ((nI 0), j2.2)
    try dsimp only
    refine g_iloadn K 3 rfl rfl 21 dX2_takes_20 rfl ?_
    refine g_iconst K (nI 2) ic_2 22 dX2_takes_21 rfl ?_
    refine g_icmp_ge K 25 47 dX2_takes_22 rfl (by decide) (fun _ => ?_) (fun _ => ?_)
    · refine g_iinc K (j2.1 + (nI 1)) 2 [(0, .ref a), (1, .ref x1), (2, .int (j2.1 + (nI 1)))] [1, 2, 0] rfl (by rw [ic_1]) (by decide) rfl 50 dX2_takes_47 rfl ?_
      refine g_goto K 10 dX2_takes_50 (by decide) ?_
      exact h4 ((j2.1 + (nI 1)), j5.2)
    · refine g_aloadn K 0 rfl rfl 26 dX2_takes_25 rfl ?_
      refine gx_get K hK hsh 0 (v := .ref (a + 1)) 29 in_X2 ha rfl (Nat.le_of_ble_eq_true rfl) rfl (by decide) (Or.inl q211) rfl dX2_takes_26 rfl ?_
      refine g_iloadn K 2 rfl rfl 30 dX2_takes_29 rfl ?_
      refine gx_aal K hK hsh 31 (sh_2_row hsh ha) dX2_takes_30 rfl (fun i8 hi9 => ?_)
      refine g_iloadn K 3 rfl rfl 32 dX2_takes_31 rfl ?_
      refine g_aloadn K 1 rfl rfl 33 dX2_takes_32 rfl ?_
      refine gx_get K hK hsh 0 (v := .ref (x1 + 1)) 36 in_X2 hx1 rfl (Nat.le_of_ble_eq_true rfl) rfl (by decide) (Or.inl q211) rfl dX2_takes_33 rfl ?_
      refine g_iloadn K 2 rfl rfl 37 dX2_takes_36 rfl ?_
      refine gx_aal K hK hsh 38 (sh_2_row hsh hx1) dX2_takes_37 rfl (fun i10 hi11 => ?_)
      refine g_iloadn K 3 rfl rfl 39 dX2_takes_38 rfl ?_
      refine gx_ald K hK hsh 40 (sh_22 hsh (sh_2_row hsh hx1) hi11) dX2_takes_39 rfl (fun v12 => ?_)
      refine gx_ast K hK hsh 41 (sh_22 hsh (sh_2_row hsh ha) hi9) dX2_takes_40 rfl (fun I13 => ?_)
      refine g_iinc K (j5.1 + (nI 1)) 3 [(0, .ref a), (1, .ref x1), (2, .int j2.1), (3, .int (j5.1 + (nI 1)))] [1, 2, 3, 0] rfl (by rw [ic_1]) (by decide) rfl 44 dX2_takes_41 rfl ?_
      refine g_goto K 20 dX2_takes_44 (by decide) ?_
      exact h7 ((j5.1 + (nI 1)), I13)
/-- GingerRents$Borough.moves(LGingerRents$Borough;)V -/
def x1_moves (I : Mem) (a : Nat) (x1 : Nat) : Option (Mem) :=
  jn (fun (j1 : Mem) =>
  nm (up2 j1 a 15 (j1 x1 15)) fun I4 =>
  nm (up2 I4 a 16 (I4 x1 16)) fun I5 =>
  nm (up2 I5 a 17 (I5 x1 17)) fun I6 =>
  nm (up2 I6 a 18 (I6 x1 18)) fun I7 =>
  nm (up2 I7 a 19 (I7 x1 19)) fun I8 =>
  nm (up2 I8 a 20 (I8 x1 20)) fun I9 =>
  nm (up2 I9 a 21 (I9 x1 21)) fun I10 =>
  some I10) (fun k2 =>
  lp (fun again12 (j11 : Int32 × Mem) =>
  if (nI 12) ≤ j11.1 then
  k2 j11.2
  else
  (ix 12 j11.1).bind fun i14 =>
  (ix 12 j11.1).bind fun i16 =>
  (x3_takes j11.2 (a + 245 + 2 * i14) (x1 + 245 + 2 * i16)).bind fun r18 =>
  again12 ((j11.1 + (nI 1)), r18)) fuel ((nI 0), I))
theorem wd_x1_moves : yX1_moves.cls = RX1 ∧ yX1_moves.cls ≠ "java/lang/invoke/MethodHandle" ∧ yX1_moves.cls ≠ "java/lang/invoke/VarHandle" ∧ (parseMethodDescriptor yX1_moves.desc).map (fun d => d.parameters.length) = some 1 := by decide +kernel
set_option maxRecDepth 100000 in
theorem ctx_x1_moves {cs : Cs} {z : Nat} {kd : Kd} (P : Ptr) (I : Mem) (a : Nat) (x1 : Nat) (ha : kd a = (1, 0, 0)) (hx1 : kd x1 = (1, 0, 0)) : CtX cs z kd yX1_moves cX1_moves 3 none 1 22 [.ref a, .ref x1] (P, I) (fun r => (none, (P, r))) (x1_moves I a x1) := by
  refine CtX.of RX1 (by decide) rfl (Nat.le_of_ble_eq_true rfl) ?_
  intro l D sz p e s m args below meth c hsh K hr hlk hK
  refine g_sub (ls' := [(0, .ref a), (1, .ref x1)]) [0, 1] rfl ?_
  unfold x1_moves
  refine g_iconst K (nI 0) ic_0 1 dX1_moves_0 rfl ?_
  refine g_istoren K [(0, .ref a), (1, .ref x1), (2, .int (nI 0))] [1, 2, 0] rfl (by decide) rfl 2 dX1_moves_1 rfl ?_
  refine g_jn (head := 29) (L := fun j1 => [(0, .ref a), (1, .ref x1)]) (sf := fun j1 => []) (mf := fun j1 => (P, j1)) (fun j1 => ?_) (fun k2 h3 => ?_)
  · try dsimp only
    refine g_aloadn K 0 rfl rfl 30 dX1_moves_29 rfl ?_
    refine g_aloadn K 1 rfl rfl 31 dX1_moves_30 rfl ?_
    refine gx_get K hK hsh 15 (v := .int (j1 x1 15)) 34 in_X1 hx1 rfl (Nat.le_of_ble_eq_true rfl) rfl (by decide) (Or.inl q329) rfl dX1_moves_31 rfl ?_
    refine gx_put K hK hsh 15 (ty := .int) 37 in_X1 tyX1 tyX1_ok nmX1 ha rfl rfl (Nat.le_of_ble_eq_true rfl) rfl (by decide) (Or.inl q329) rfl (by decide +kernel) rfl rfl (Nat.le_of_ble_eq_true rfl) dX1_moves_34 rfl (fun I4 _ => ?_)
    refine g_aloadn K 0 rfl rfl 38 dX1_moves_37 rfl ?_
    refine g_aloadn K 1 rfl rfl 39 dX1_moves_38 rfl ?_
    refine gx_get K hK hsh 16 (v := .int (I4 x1 16)) 42 in_X1 hx1 rfl (Nat.le_of_ble_eq_true rfl) rfl (by decide) (Or.inl q332) rfl dX1_moves_39 rfl ?_
    refine gx_put K hK hsh 16 (ty := .int) 45 in_X1 tyX1 tyX1_ok nmX1 ha rfl rfl (Nat.le_of_ble_eq_true rfl) rfl (by decide) (Or.inl q332) rfl (by decide +kernel) rfl rfl (Nat.le_of_ble_eq_true rfl) dX1_moves_42 rfl (fun I5 _ => ?_)
    refine g_aloadn K 0 rfl rfl 46 dX1_moves_45 rfl ?_
    refine g_aloadn K 1 rfl rfl 47 dX1_moves_46 rfl ?_
    refine gx_get K hK hsh 17 (v := .int (I5 x1 17)) 50 in_X1 hx1 rfl (Nat.le_of_ble_eq_true rfl) rfl (by decide) (Or.inl q334) rfl dX1_moves_47 rfl ?_
    refine gx_put K hK hsh 17 (ty := .int) 53 in_X1 tyX1 tyX1_ok nmX1 ha rfl rfl (Nat.le_of_ble_eq_true rfl) rfl (by decide) (Or.inl q334) rfl (by decide +kernel) rfl rfl (Nat.le_of_ble_eq_true rfl) dX1_moves_50 rfl (fun I6 _ => ?_)
    refine g_aloadn K 0 rfl rfl 54 dX1_moves_53 rfl ?_
    refine g_aloadn K 1 rfl rfl 55 dX1_moves_54 rfl ?_
    refine gx_get K hK hsh 18 (v := .int (I6 x1 18)) 58 in_X1 hx1 rfl (Nat.le_of_ble_eq_true rfl) rfl (by decide) (Or.inl q336) rfl dX1_moves_55 rfl ?_
    refine gx_put K hK hsh 18 (ty := .int) 61 in_X1 tyX1 tyX1_ok nmX1 ha rfl rfl (Nat.le_of_ble_eq_true rfl) rfl (by decide) (Or.inl q336) rfl (by decide +kernel) rfl rfl (Nat.le_of_ble_eq_true rfl) dX1_moves_58 rfl (fun I7 _ => ?_)
    refine g_aloadn K 0 rfl rfl 62 dX1_moves_61 rfl ?_
    refine g_aloadn K 1 rfl rfl 63 dX1_moves_62 rfl ?_
    refine gx_get K hK hsh 19 (v := .int (I7 x1 19)) 66 in_X1 hx1 rfl (Nat.le_of_ble_eq_true rfl) rfl (by decide) (Or.inl q338) rfl dX1_moves_63 rfl ?_
    refine gx_put K hK hsh 19 (ty := .int) 69 in_X1 tyX1 tyX1_ok nmX1 ha rfl rfl (Nat.le_of_ble_eq_true rfl) rfl (by decide) (Or.inl q338) rfl (by decide +kernel) rfl rfl (Nat.le_of_ble_eq_true rfl) dX1_moves_66 rfl (fun I8 _ => ?_)
    refine g_aloadn K 0 rfl rfl 70 dX1_moves_69 rfl ?_
    refine g_aloadn K 1 rfl rfl 71 dX1_moves_70 rfl ?_
    refine gx_get K hK hsh 20 (v := .int (I8 x1 20)) 74 in_X1 hx1 rfl (Nat.le_of_ble_eq_true rfl) rfl (by decide) (Or.inl q340) rfl dX1_moves_71 rfl ?_
    refine gx_put K hK hsh 20 (ty := .int) 77 in_X1 tyX1 tyX1_ok nmX1 ha rfl rfl (Nat.le_of_ble_eq_true rfl) rfl (by decide) (Or.inl q340) rfl (by decide +kernel) rfl rfl (Nat.le_of_ble_eq_true rfl) dX1_moves_74 rfl (fun I9 _ => ?_)
    refine g_aloadn K 0 rfl rfl 78 dX1_moves_77 rfl ?_
    refine g_aloadn K 1 rfl rfl 79 dX1_moves_78 rfl ?_
    refine gx_get K hK hsh 21 (v := .int (I9 x1 21)) 82 in_X1 hx1 rfl (Nat.le_of_ble_eq_true rfl) rfl (by decide) (Or.inl q342) rfl dX1_moves_79 rfl ?_
    refine gx_put K hK hsh 21 (ty := .int) 85 in_X1 tyX1 tyX1_ok nmX1 ha rfl rfl (Nat.le_of_ble_eq_true rfl) rfl (by decide) (Or.inl q342) rfl (by decide +kernel) rfl rfl (Nat.le_of_ble_eq_true rfl) dX1_moves_82 rfl (fun I10 _ => ?_)
    exact gx_vret K hK hsh hr hlk dX1_moves_85 rfl
  · refine g_lp (head := 2) (L := fun j11 => [(0, .ref a), (1, .ref x1), (2, .int j11.1)]) (sf := fun j11 => []) (mf := fun j11 => (P, j11.2)) (fun again12 h13 j11 => ?_) fuel ((nI 0), I)
    try dsimp only
    refine g_iloadn K 2 rfl rfl 3 dX1_moves_2 rfl ?_
    refine g_bipush K (nI 12) bp_12 5 dX1_moves_3 rfl ?_
    refine g_icmp_ge K 8 29 dX1_moves_5 rfl (by decide) (fun _ => ?_) (fun _ => ?_)
    · refine g_sub (ls' := [(0, .ref a), (1, .ref x1)]) [0, 1] rfl ?_
      exact h3 j11.2
    · refine g_aloadn K 0 rfl rfl 9 dX1_moves_8 rfl ?_
      refine gx_get K hK hsh 0 (v := .ref (a + 1)) 12 in_X1 ha rfl (Nat.le_of_ble_eq_true rfl) rfl (by decide) (Or.inl q294) rfl dX1_moves_9 rfl ?_
      refine g_iloadn K 2 rfl rfl 13 dX1_moves_12 rfl ?_
      refine gx_hal K hK hsh 14 (sh_1_house hsh ha) dX1_moves_13 rfl (fun i14 hi15 => ?_)
      refine g_aloadn K 1 rfl rfl 15 dX1_moves_14 rfl ?_
      refine gx_get K hK hsh 0 (v := .ref (x1 + 1)) 18 in_X1 hx1 rfl (Nat.le_of_ble_eq_true rfl) rfl (by decide) (Or.inl q294) rfl dX1_moves_15 rfl ?_
      refine g_iloadn K 2 rfl rfl 19 dX1_moves_18 rfl ?_
      refine gx_hal K hK hsh 20 (sh_1_house hsh hx1) dX1_moves_19 rfl (fun i16 hi17 => ?_)
      refine gx_call K hK hsh 23 (ctx_x3_takes P j11.2 (a + 245 + 2 * i14) (x1 + 245 + 2 * i16) (sh_23 hsh (sh_1_house hsh ha) hi15) (sh_23 hsh (sh_1_house hsh hx1) hi17)) (lw_V q992 q993 q994 q157 q995) wd_x3_takes (sh_23 hsh (sh_1_house hsh ha) hi15) rfl (Nat.le_of_ble_eq_true rfl) rfl (by decide) rfl (Nat.le_of_ble_eq_true rfl) dX1_moves_20 rfl (fun r18 hr19 => ?_)
      refine g_iinc K (j11.1 + (nI 1)) 2 [(0, .ref a), (1, .ref x1), (2, .int (j11.1 + (nI 1)))] [1, 2, 0] rfl (by rw [ic_1]) (by decide) rfl 26 dX1_moves_23 rfl ?_
      refine g_goto K 2 dX1_moves_26 (by decide) ?_
      exact h13 ((j11.1 + (nI 1)), r18)
/-- GingerRents$Borough.canWed(I)Z -/
def x1_canWed (I : Mem) (a : Nat) (x1 : Int32) : Option (Bool) :=
  (ix 12 x1).bind fun i1 =>
  (x3_stands I (a + 245 + 2 * i1)).bind fun r3 =>
  if (bI r3) = 0 then
  some false
  else
  (ix 12 x1).bind fun i5 =>
  if (I (a + 245 + 2 * i5) 7) = 0 then
  (ix 12 x1).bind fun i7 =>
  if (I (a + 245 + 2 * i7) 5) ≤ 0 then
  some false
  else
  some true
  else
  some false
theorem wd_x1_canWed : yX1_canWed.cls = RX1 ∧ yX1_canWed.cls ≠ "java/lang/invoke/MethodHandle" ∧ yX1_canWed.cls ≠ "java/lang/invoke/VarHandle" ∧ (parseMethodDescriptor yX1_canWed.desc).map (fun d => d.parameters.length) = some 1 := by decide +kernel
set_option maxRecDepth 100000 in
theorem ctx_x1_canWed {cs : Cs} {z : Nat} {kd : Kd} (P : Ptr) (I : Mem) (a : Nat) (x1 : Int32) (ha : kd a = (1, 0, 0)) : CtX cs z kd yX1_canWed cX1_canWed 2 (some .boolean) 2 45 [.ref a, .int x1] (P, I) (fun r => (some (.int (bI r)), (P, I))) (x1_canWed I a x1) := by
  refine CtX.of RX1 (by decide) rfl (Nat.le_of_ble_eq_true rfl) ?_
  intro l D sz p e s m args below meth c hsh K hr hlk hK
  refine g_sub (ls' := [(0, .ref a), (1, .int x1)]) [0, 1] rfl ?_
  unfold x1_canWed
  refine g_aloadn K 0 rfl rfl 1 dX1_canWed_0 rfl ?_
  refine gx_get K hK hsh 0 (v := .ref (a + 1)) 4 in_X1 ha rfl (Nat.le_of_ble_eq_true rfl) rfl (by decide) (Or.inl q294) rfl dX1_canWed_1 rfl ?_
  refine g_iloadn K 1 rfl rfl 5 dX1_canWed_4 rfl ?_
  refine gx_hal K hK hsh 6 (sh_1_house hsh ha) dX1_canWed_5 rfl (fun i1 hi2 => ?_)
  refine gx_call K hK hsh 9 (ctx_x3_stands P I (a + 245 + 2 * i1) (sh_23 hsh (sh_1_house hsh ha) hi2)) (lw_V q1036 q1037 q1038 q157 q1039) wd_x3_stands (sh_23 hsh (sh_1_house hsh ha) hi2) rfl (Nat.le_of_ble_eq_true rfl) rfl (by decide) rfl (Nat.le_of_ble_eq_true rfl) dX1_canWed_6 rfl (fun r3 hr4 => ?_)
  refine g_if_eq K 12 40 dX1_canWed_9 rfl (by decide) (fun _ => ?_) (fun _ => ?_)
  · refine g_iconst K (nI 0) ic_0 41 dX1_canWed_40 rfl ?_
    exact gx_zret K hK hsh hr hlk (b := false) dX1_canWed_41 rfl rfl
  · refine g_aloadn K 0 rfl rfl 13 dX1_canWed_12 rfl ?_
    refine gx_get K hK hsh 0 (v := .ref (a + 1)) 16 in_X1 ha rfl (Nat.le_of_ble_eq_true rfl) rfl (by decide) (Or.inl q294) rfl dX1_canWed_13 rfl ?_
    refine g_iloadn K 1 rfl rfl 17 dX1_canWed_16 rfl ?_
    refine gx_hal K hK hsh 18 (sh_1_house hsh ha) dX1_canWed_17 rfl (fun i5 hi6 => ?_)
    refine gx_get K hK hsh 7 (v := .int (I (a + 245 + 2 * i5) 7)) 21 in_X3 (sh_23 hsh (sh_1_house hsh ha) hi6) rfl (Nat.le_of_ble_eq_true rfl) rfl (by decide) (Or.inr (nf_q275 hK.2)) rfl dX1_canWed_18 rfl ?_
    refine g_if_ne K 24 40 dX1_canWed_21 rfl (by decide) (fun _ => ?_) (fun _ => ?_)
    · refine g_aloadn K 0 rfl rfl 25 dX1_canWed_24 rfl ?_
      refine gx_get K hK hsh 0 (v := .ref (a + 1)) 28 in_X1 ha rfl (Nat.le_of_ble_eq_true rfl) rfl (by decide) (Or.inl q294) rfl dX1_canWed_25 rfl ?_
      refine g_iloadn K 1 rfl rfl 29 dX1_canWed_28 rfl ?_
      refine gx_hal K hK hsh 30 (sh_1_house hsh ha) dX1_canWed_29 rfl (fun i7 hi8 => ?_)
      refine gx_get K hK hsh 5 (v := .int (I (a + 245 + 2 * i7) 5)) 33 in_X3 (sh_23 hsh (sh_1_house hsh ha) hi8) rfl (Nat.le_of_ble_eq_true rfl) rfl (by decide) (Or.inr (nf_q269 hK.2)) rfl dX1_canWed_30 rfl ?_
      refine g_if_le K 36 40 dX1_canWed_33 rfl (by decide) (fun _ => ?_) (fun _ => ?_)
      · refine g_iconst K (nI 0) ic_0 41 dX1_canWed_40 rfl ?_
        exact gx_zret K hK hsh hr hlk (b := false) dX1_canWed_41 rfl rfl
      · refine g_iconst K (nI 1) ic_1 37 dX1_canWed_36 rfl ?_
        refine g_goto K 41 dX1_canWed_37 (by decide) ?_
        exact gx_zret K hK hsh hr hlk (b := true) dX1_canWed_41 rfl rfl
    · refine g_iconst K (nI 0) ic_0 41 dX1_canWed_40 rfl ?_
      exact gx_zret K hK hsh hr hlk (b := false) dX1_canWed_41 rfl rfl
/-- GingerRents$Borough.notes(III)V -/
def x1_notes (I : Mem) (a : Nat) (x1 : Int32) (x2 : Int32) (x3 : Int32) : Option (Mem) :=
  if (I a 23) = 0 then
  if (I a 21) = (nI 150) then
  some I
  else
  (ix 150 (I a 21)).bind fun i1 =>
  (wr I (a + 3 + i1) 4 (nI 0) (I a 19)).bind fun I3 =>
  (wr I3 (a + 3 + i1) 4 (nI 1) x1).bind fun I4 =>
  (wr I4 (a + 3 + i1) 4 (nI 2) x2).bind fun I5 =>
  (wr I5 (a + 3 + i1) 4 (nI 3) x3).bind fun I6 =>
  nm (up2 I6 a 21 ((I6 a 21) + (nI 1))) fun I7 =>
  some I7
  else
  some I
theorem wd_x1_notes : yX1_notes.cls = RX1 ∧ yX1_notes.cls ≠ "java/lang/invoke/MethodHandle" ∧ yX1_notes.cls ≠ "java/lang/invoke/VarHandle" ∧ (parseMethodDescriptor yX1_notes.desc).map (fun d => d.parameters.length) = some 3 := by decide +kernel
set_option maxRecDepth 100000 in
theorem ctx_x1_notes {cs : Cs} {z : Nat} {kd : Kd} (P : Ptr) (I : Mem) (a : Nat) (x1 : Int32) (x2 : Int32) (x3 : Int32) (ha : kd a = (1, 0, 0)) : CtX cs z kd yX1_notes cX1_notes 5 none 0 0 [.ref a, .int x1, .int x2, .int x3] (P, I) (fun r => (none, (P, r))) (x1_notes I a x1 x2 x3) := by
  refine CtX.of RX1 (by decide) rfl (Nat.le_of_ble_eq_true rfl) ?_
  intro l D sz p e s m args below meth c hsh K hr hlk hK
  refine g_sub (ls' := [(0, .ref a), (1, .int x1), (2, .int x2), (3, .int x3)]) [0, 1, 2, 3] rfl ?_
  unfold x1_notes
  refine g_aloadn K 0 rfl rfl 1 dX1_notes_0 rfl ?_
  refine gx_get K hK hsh 23 (v := .int (I a 23)) 4 in_X1 ha rfl (Nat.le_of_ble_eq_true rfl) rfl (by decide) (Or.inl q347) rfl dX1_notes_1 rfl ?_
  refine g_if_ne K 7 17 dX1_notes_4 rfl (by decide) (fun _ => ?_) (fun _ => ?_)
  · refine g_aloadn K 0 rfl rfl 8 dX1_notes_7 rfl ?_
    refine gx_get K hK hsh 21 (v := .int (I a 21)) 11 in_X1 ha rfl (Nat.le_of_ble_eq_true rfl) rfl (by decide) (Or.inl q342) rfl dX1_notes_8 rfl ?_
    refine g_sipush K (nI 150) sp_150 14 dX1_notes_11 rfl ?_
    refine g_icmp_ne K 17 18 dX1_notes_14 rfl (by decide) (fun _ => ?_) (fun _ => ?_)
    · exact gx_vret K hK hsh hr hlk dX1_notes_17 rfl
    · refine g_aloadn K 0 rfl rfl 19 dX1_notes_18 rfl ?_
      refine gx_get K hK hsh 1 (v := .ref (a + 2)) 22 in_X1 ha rfl (Nat.le_of_ble_eq_true rfl) rfl (by decide) (Or.inl q299) rfl dX1_notes_19 rfl ?_
      refine g_aloadn K 0 rfl rfl 23 dX1_notes_22 rfl ?_
      refine gx_get K hK hsh 21 (v := .int (I a 21)) 26 in_X1 ha rfl (Nat.le_of_ble_eq_true rfl) rfl (by decide) (Or.inl q342) rfl dX1_notes_23 rfl ?_
      refine gx_aal K hK hsh 27 (sh_1_book hsh ha) dX1_notes_26 rfl (fun i1 hi2 => ?_)
      refine g_astore K [(0, .ref a), (1, .int x1), (2, .int x2), (3, .int x3), (4, .ref (a + 3 + i1))] [1, 2, 3, 4, 0] (by decide) rfl 29 dX1_notes_27 rfl ?_
      refine g_aload K 4 rfl 31 dX1_notes_29 rfl ?_
      refine g_iconst K (nI 0) ic_0 32 dX1_notes_31 rfl ?_
      refine g_aloadn K 0 rfl rfl 33 dX1_notes_32 rfl ?_
      refine gx_get K hK hsh 19 (v := .int (I a 19)) 36 in_X1 ha rfl (Nat.le_of_ble_eq_true rfl) rfl (by decide) (Or.inl q338) rfl dX1_notes_33 rfl ?_
      refine gx_ast K hK hsh 37 (sh_22 hsh (sh_1_book hsh ha) hi2) dX1_notes_36 rfl (fun I3 => ?_)
      refine g_aload K 4 rfl 39 dX1_notes_37 rfl ?_
      refine g_iconst K (nI 1) ic_1 40 dX1_notes_39 rfl ?_
      refine g_iloadn K 1 rfl rfl 41 dX1_notes_40 rfl ?_
      refine gx_ast K hK hsh 42 (sh_22 hsh (sh_1_book hsh ha) hi2) dX1_notes_41 rfl (fun I4 => ?_)
      refine g_aload K 4 rfl 44 dX1_notes_42 rfl ?_
      refine g_iconst K (nI 2) ic_2 45 dX1_notes_44 rfl ?_
      refine g_iloadn K 2 rfl rfl 46 dX1_notes_45 rfl ?_
      refine gx_ast K hK hsh 47 (sh_22 hsh (sh_1_book hsh ha) hi2) dX1_notes_46 rfl (fun I5 => ?_)
      refine g_aload K 4 rfl 49 dX1_notes_47 rfl ?_
      refine g_iconst K (nI 3) ic_3 50 dX1_notes_49 rfl ?_
      refine g_iloadn K 3 rfl rfl 51 dX1_notes_50 rfl ?_
      refine gx_ast K hK hsh 52 (sh_22 hsh (sh_1_book hsh ha) hi2) dX1_notes_51 rfl (fun I6 => ?_)
      refine g_aloadn K 0 rfl rfl 53 dX1_notes_52 rfl ?_
      refine g_dup K rfl 54 dX1_notes_53 rfl ?_
      refine gx_get K hK hsh 21 (v := .int (I6 a 21)) 57 in_X1 ha rfl (Nat.le_of_ble_eq_true rfl) rfl (by decide) (Or.inl q342) rfl dX1_notes_54 rfl ?_
      refine g_iconst K (nI 1) ic_1 58 dX1_notes_57 rfl ?_
      refine g_iadd K 59 dX1_notes_58 rfl ?_
      refine gx_put K hK hsh 21 (ty := .int) 62 in_X1 tyX1 tyX1_ok nmX1 ha rfl rfl (Nat.le_of_ble_eq_true rfl) rfl (by decide) (Or.inl q342) rfl (by decide +kernel) rfl rfl (Nat.le_of_ble_eq_true rfl) dX1_notes_59 rfl (fun I7 _ => ?_)
      exact gx_vret K hK hsh hr hlk dX1_notes_62 rfl
  · exact gx_vret K hK hsh hr hlk dX1_notes_17 rfl
/-- GingerRents$Borough.standing()I -/
def x1_standing (I : Mem) (a : Nat) : Option (Int32) :=
  lp (fun again2 (j1 : Int32 × Int32) =>
  if (I a 14) ≤ j1.2 then
  some j1.1
  else
  (ix 12 j1.2).bind fun i4 =>
  (x3_stands I (a + 245 + 2 * i4)).bind fun r6 =>
  jn (fun (j8 : Int32) =>
  again2 ((j1.1 ||| j8), (j1.2 + (nI 1)))) (fun k9 =>
  if (bI r6) = 0 then
  k9 (nI 0)
  else
  k9 ((nI 1) <<< (j1.2 &&& 31)))) fuel ((nI 0), (nI 0))
theorem wd_x1_standing : yX1_standing.cls = RX1 ∧ yX1_standing.cls ≠ "java/lang/invoke/MethodHandle" ∧ yX1_standing.cls ≠ "java/lang/invoke/VarHandle" ∧ (parseMethodDescriptor yX1_standing.desc).map (fun d => d.parameters.length) = some 0 := by decide +kernel
set_option maxRecDepth 100000 in
theorem ctx_x1_standing {cs : Cs} {z : Nat} {kd : Kd} (P : Ptr) (I : Mem) (a : Nat) (ha : kd a = (1, 0, 0)) : CtX cs z kd yX1_standing cX1_standing 3 (some .int) 2 45 [.ref a] (P, I) (fun r => (some (.int r), (P, I))) (x1_standing I a) := by
  refine CtX.of RX1 (by decide) rfl (Nat.le_of_ble_eq_true rfl) ?_
  intro l D sz p e s m args below meth c hsh K hr hlk hK
  refine g_sub (ls' := [(0, .ref a)]) [0] rfl ?_
  unfold x1_standing
  refine g_iconst K (nI 0) ic_0 1 dX1_standing_0 rfl ?_
  refine g_istoren K [(0, .ref a), (1, .int (nI 0))] [1, 0] rfl (by decide) rfl 2 dX1_standing_1 rfl ?_
  refine g_iconst K (nI 0) ic_0 3 dX1_standing_2 rfl ?_
  refine g_istoren K [(0, .ref a), (1, .int (nI 0)), (2, .int (nI 0))] [1, 2, 0] rfl (by decide) rfl 4 dX1_standing_3 rfl ?_
  refine g_lp (head := 4) (L := fun j1 => [(0, .ref a), (1, .int j1.1), (2, .int j1.2)]) (sf := fun j1 => []) (mf := fun j1 => (P, I)) (fun again2 h3 j1 => ?_) fuel ((nI 0), (nI 0))
  try dsimp only
  refine g_iloadn K 2 rfl rfl 5 dX1_standing_4 rfl ?_
  refine g_aloadn K 0 rfl rfl 6 dX1_standing_5 rfl ?_
  refine gx_get K hK hsh 14 (v := .int (I a 14)) 9 in_X1 ha rfl (Nat.le_of_ble_eq_true rfl) rfl (by decide) (Or.inl q325) rfl dX1_standing_6 rfl ?_
  refine g_icmp_ge K 12 40 dX1_standing_9 rfl (by decide) (fun _ => ?_) (fun _ => ?_)
  · refine g_iloadn K 1 rfl rfl 41 dX1_standing_40 rfl ?_
    exact gx_iret K hK hsh hr hlk dX1_standing_41 rfl
  · refine g_iloadn K 1 rfl rfl 13 dX1_standing_12 rfl ?_
    refine g_aloadn K 0 rfl rfl 14 dX1_standing_13 rfl ?_
    refine gx_get K hK hsh 0 (v := .ref (a + 1)) 17 in_X1 ha rfl (Nat.le_of_ble_eq_true rfl) rfl (by decide) (Or.inl q294) rfl dX1_standing_14 rfl ?_
    refine g_iloadn K 2 rfl rfl 18 dX1_standing_17 rfl ?_
    refine gx_hal K hK hsh 19 (sh_1_house hsh ha) dX1_standing_18 rfl (fun i4 hi5 => ?_)
    refine gx_call K hK hsh 22 (ctx_x3_stands P I (a + 245 + 2 * i4) (sh_23 hsh (sh_1_house hsh ha) hi5)) (lw_V q1036 q1037 q1038 q157 q1039) wd_x3_stands (sh_23 hsh (sh_1_house hsh ha) hi5) rfl (Nat.le_of_ble_eq_true rfl) rfl (by decide) rfl (Nat.le_of_ble_eq_true rfl) dX1_standing_19 rfl (fun r6 hr7 => ?_)
    refine g_jn (head := 32) (L := fun j8 => [(0, .ref a), (2, .int j1.2)]) (sf := fun j8 => [.int j8, .int j1.1]) (mf := fun j8 => (P, I)) (fun j8 => ?_) (fun k9 h10 => ?_)
    · try dsimp only
      refine g_ior K 33 dX1_standing_32 rfl ?_
      refine g_istoren K [(0, .ref a), (1, .int (j1.1 ||| j8)), (2, .int j1.2)] [1, 0, 2] rfl (by decide) rfl 34 dX1_standing_33 rfl ?_
      refine g_iinc K (j1.2 + (nI 1)) 2 [(0, .ref a), (1, .int (j1.1 ||| j8)), (2, .int (j1.2 + (nI 1)))] [1, 2, 0] rfl (by rw [ic_1]) (by decide) rfl 37 dX1_standing_34 rfl ?_
      refine g_goto K 4 dX1_standing_37 (by decide) ?_
      exact h3 ((j1.1 ||| j8), (j1.2 + (nI 1)))
    · refine g_if_eq K 25 31 dX1_standing_22 rfl (by decide) (fun _ => ?_) (fun _ => ?_)
      · refine g_iconst K (nI 0) ic_0 32 dX1_standing_31 rfl ?_
        refine g_sub (ls' := [(0, .ref a), (2, .int j1.2)]) [0, 2] rfl ?_
        exact h10 (nI 0)
      · refine g_iconst K (nI 1) ic_1 26 dX1_standing_25 rfl ?_
        refine g_iloadn K 2 rfl rfl 27 dX1_standing_26 rfl ?_
        refine g_ishl K 28 dX1_standing_27 rfl ?_
        refine g_goto K 32 dX1_standing_28 (by decide) ?_
        refine g_sub (ls' := [(0, .ref a), (2, .int j1.2)]) [0, 2] rfl ?_
        exact h10 ((nI 1) <<< (j1.2 &&& 31))
/-- GingerRents$Borough.moves(II)V -/
def x1_moves_2 (I : Mem) (a : Nat) (x1 : Int32) (x2 : Int32) : Option (Mem) :=
  (x1_notes I a (nI 4) x1 x2).bind fun r1 =>
  jn (fun (j3 : Mem) =>
  (ix 12 x1).bind fun i6 =>
  nm (up2 j3 (a + 245 + 2 * i6) 5 (nI 0)) fun I8 =>
  some I8) (fun k4 =>
  if x2 = (-1 : Int32) then
  k4 r1
  else
  (ix 12 x2).bind fun i9 =>
  (ix 12 x1).bind fun i11 =>
  nm (up2 r1 (a + 245 + 2 * i9) 5 ((r1 (a + 245 + 2 * i9) 5) + (r1 (a + 245 + 2 * i11) 5))) fun I13 =>
  k4 I13)
theorem wd_x1_moves_2 : yX1_moves_2.cls = RX1 ∧ yX1_moves_2.cls ≠ "java/lang/invoke/MethodHandle" ∧ yX1_moves_2.cls ≠ "java/lang/invoke/VarHandle" ∧ (parseMethodDescriptor yX1_moves_2.desc).map (fun d => d.parameters.length) = some 2 := by decide +kernel
set_option maxRecDepth 100000 in
theorem ctx_x1_moves_2 {cs : Cs} {z : Nat} {kd : Kd} (P : Ptr) (I : Mem) (a : Nat) (x1 : Int32) (x2 : Int32) (ha : kd a = (1, 0, 0)) : CtX cs z kd yX1_moves_2 cX1_moves_2 3 none 1 24 [.ref a, .int x1, .int x2] (P, I) (fun r => (none, (P, r))) (x1_moves_2 I a x1 x2) := by
  refine CtX.of RX1 (by decide) rfl (Nat.le_of_ble_eq_true rfl) ?_
  intro l D sz p e s m args below meth c hsh K hr hlk hK
  refine g_sub (ls' := [(0, .ref a), (1, .int x1), (2, .int x2)]) [0, 1, 2] rfl ?_
  unfold x1_moves_2
  refine g_aloadn K 0 rfl rfl 1 dX1_moves_2_0 rfl ?_
  refine g_iconst K (nI 4) ic_4 2 dX1_moves_2_1 rfl ?_
  refine g_iloadn K 1 rfl rfl 3 dX1_moves_2_2 rfl ?_
  refine g_iloadn K 2 rfl rfl 4 dX1_moves_2_3 rfl ?_
  refine gx_call K hK hsh 7 (ctx_x1_notes P I a (nI 4) x1 x2 ha) (lw_V q1062 q1064 qs34 q152 q1065) wd_x1_notes ha rfl (Nat.le_of_ble_eq_true rfl) rfl (by decide) rfl (Nat.le_of_ble_eq_true rfl) dX1_moves_2_4 rfl (fun r1 hr2 => ?_)
  refine g_iloadn K 2 rfl rfl 8 dX1_moves_2_7 rfl ?_
  refine g_iconst K (-1 : Int32) ic_m1 9 dX1_moves_2_8 rfl ?_
  refine g_jn (head := 35) (L := fun j3 => [(0, .ref a), (1, .int x1)]) (sf := fun j3 => []) (mf := fun j3 => (P, j3)) (fun j3 => ?_) (fun k4 h5 => ?_)
  · try dsimp only
    refine g_aloadn K 0 rfl rfl 36 dX1_moves_2_35 rfl ?_
    refine gx_get K hK hsh 0 (v := .ref (a + 1)) 39 in_X1 ha rfl (Nat.le_of_ble_eq_true rfl) rfl (by decide) (Or.inl q294) rfl dX1_moves_2_36 rfl ?_
    refine g_iloadn K 1 rfl rfl 40 dX1_moves_2_39 rfl ?_
    refine gx_hal K hK hsh 41 (sh_1_house hsh ha) dX1_moves_2_40 rfl (fun i6 hi7 => ?_)
    refine g_iconst K (nI 0) ic_0 42 dX1_moves_2_41 rfl ?_
    refine gx_put K hK hsh 5 (ty := .int) 45 in_X3 tyX3 tyX3_ok nmX3 (sh_23 hsh (sh_1_house hsh ha) hi7) rfl rfl (Nat.le_of_ble_eq_true rfl) rfl (by decide) (Or.inr (nf_q269 hK.2)) rfl (by decide +kernel) rfl rfl (Nat.le_of_ble_eq_true rfl) dX1_moves_2_42 rfl (fun I8 _ => ?_)
    exact gx_vret K hK hsh hr hlk dX1_moves_2_45 rfl
  · refine g_icmp_eq K 12 35 dX1_moves_2_9 rfl (by decide) (fun _ => ?_) (fun _ => ?_)
    · refine g_sub (ls' := [(0, .ref a), (1, .int x1)]) [0, 1] rfl ?_
      exact h5 r1
    · refine g_aloadn K 0 rfl rfl 13 dX1_moves_2_12 rfl ?_
      refine gx_get K hK hsh 0 (v := .ref (a + 1)) 16 in_X1 ha rfl (Nat.le_of_ble_eq_true rfl) rfl (by decide) (Or.inl q294) rfl dX1_moves_2_13 rfl ?_
      refine g_iloadn K 2 rfl rfl 17 dX1_moves_2_16 rfl ?_
      refine gx_hal K hK hsh 18 (sh_1_house hsh ha) dX1_moves_2_17 rfl (fun i9 hi10 => ?_)
      refine g_dup K rfl 19 dX1_moves_2_18 rfl ?_
      refine gx_get K hK hsh 5 (v := .int (r1 (a + 245 + 2 * i9) 5)) 22 in_X3 (sh_23 hsh (sh_1_house hsh ha) hi10) rfl (Nat.le_of_ble_eq_true rfl) rfl (by decide) (Or.inr (nf_q269 hK.2)) rfl dX1_moves_2_19 rfl ?_
      refine g_aloadn K 0 rfl rfl 23 dX1_moves_2_22 rfl ?_
      refine gx_get K hK hsh 0 (v := .ref (a + 1)) 26 in_X1 ha rfl (Nat.le_of_ble_eq_true rfl) rfl (by decide) (Or.inl q294) rfl dX1_moves_2_23 rfl ?_
      refine g_iloadn K 1 rfl rfl 27 dX1_moves_2_26 rfl ?_
      refine gx_hal K hK hsh 28 (sh_1_house hsh ha) dX1_moves_2_27 rfl (fun i11 hi12 => ?_)
      refine gx_get K hK hsh 5 (v := .int (r1 (a + 245 + 2 * i11) 5)) 31 in_X3 (sh_23 hsh (sh_1_house hsh ha) hi12) rfl (Nat.le_of_ble_eq_true rfl) rfl (by decide) (Or.inr (nf_q269 hK.2)) rfl dX1_moves_2_28 rfl ?_
      refine g_iadd K 32 dX1_moves_2_31 rfl ?_
      refine gx_put K hK hsh 5 (ty := .int) 35 in_X3 tyX3 tyX3_ok nmX3 (sh_23 hsh (sh_1_house hsh ha) hi10) rfl rfl (Nat.le_of_ble_eq_true rfl) rfl (by decide) (Or.inr (nf_q269 hK.2)) rfl (by decide +kernel) rfl rfl (Nat.le_of_ble_eq_true rfl) dX1_moves_2_32 rfl (fun I13 _ => ?_)
      refine g_sub (ls' := [(0, .ref a), (1, .int x1)]) [0, 1] rfl ?_
      exact h5 I13
/-- GingerRents$Borough.leaves(I)V -/
def x1_leaves (kd : Kd) (P : Ptr) (I : Mem) (a : Nat) (x1 : Int32) : Option (Mem) :=
  (ix 12 x1).bind fun i1 =>
  (x3_stands I (a + 245 + 2 * i1)).bind fun r3 =>
  if (bI r3) = 0 then
  (ix 12 x1).bind fun i5 =>
  if (I (a + 245 + 2 * i5) 5) = 0 then
  some I
  else
  (x1_standing I a).bind fun r7 =>
  (pk kd (P a 13) (20, 12, 0)).bind fun b9 =>
  (rd I b9 12 x1).bind fun v11 =>
  jn (fun (j12 : Int32) =>
  (x1_moves_2 I a x1 j12).bind fun r15 =>
  some r15) (fun k13 =>
  if (r7 &&& v11) = 0 then
  k13 (-1 : Int32)
  else
  (j4_numberOfTrailingZeros (r7 &&& v11)).bind fun r17 =>
  k13 r17)
  else
  some I
theorem wd_x1_leaves : yX1_leaves.cls = RX1 ∧ yX1_leaves.cls ≠ "java/lang/invoke/MethodHandle" ∧ yX1_leaves.cls ≠ "java/lang/invoke/VarHandle" ∧ (parseMethodDescriptor yX1_leaves.desc).map (fun d => d.parameters.length) = some 1 := by decide +kernel
set_option maxRecDepth 100000 in
theorem ctx_x1_leaves {cs : Cs} {z : Nat} {kd : Kd} (P : Ptr) (I : Mem) (a : Nat) (x1 : Int32) (ha : kd a = (1, 0, 0)) : CtX cs z kd yX1_leaves cX1_leaves 3 none 3 67 [.ref a, .int x1] (P, I) (fun r => (none, (P, r))) (x1_leaves kd P I a x1) := by
  refine CtX.of RX1 (by decide) rfl (Nat.le_of_ble_eq_true rfl) ?_
  intro l D sz p e s m args below meth c hsh K hr hlk hK
  refine g_sub (ls' := [(0, .ref a), (1, .int x1)]) [0, 1] rfl ?_
  unfold x1_leaves
  refine g_aloadn K 0 rfl rfl 1 dX1_leaves_0 rfl ?_
  refine gx_get K hK hsh 0 (v := .ref (a + 1)) 4 in_X1 ha rfl (Nat.le_of_ble_eq_true rfl) rfl (by decide) (Or.inl q294) rfl dX1_leaves_1 rfl ?_
  refine g_iloadn K 1 rfl rfl 5 dX1_leaves_4 rfl ?_
  refine gx_hal K hK hsh 6 (sh_1_house hsh ha) dX1_leaves_5 rfl (fun i1 hi2 => ?_)
  refine gx_call K hK hsh 9 (ctx_x3_stands P I (a + 245 + 2 * i1) (sh_23 hsh (sh_1_house hsh ha) hi2)) (lw_V q1036 q1037 q1038 q157 q1039) wd_x3_stands (sh_23 hsh (sh_1_house hsh ha) hi2) rfl (Nat.le_of_ble_eq_true rfl) rfl (by decide) rfl (Nat.le_of_ble_eq_true rfl) dX1_leaves_6 rfl (fun r3 hr4 => ?_)
  refine g_if_ne K 12 24 dX1_leaves_9 rfl (by decide) (fun _ => ?_) (fun _ => ?_)
  · refine g_aloadn K 0 rfl rfl 13 dX1_leaves_12 rfl ?_
    refine gx_get K hK hsh 0 (v := .ref (a + 1)) 16 in_X1 ha rfl (Nat.le_of_ble_eq_true rfl) rfl (by decide) (Or.inl q294) rfl dX1_leaves_13 rfl ?_
    refine g_iloadn K 1 rfl rfl 17 dX1_leaves_16 rfl ?_
    refine gx_hal K hK hsh 18 (sh_1_house hsh ha) dX1_leaves_17 rfl (fun i5 hi6 => ?_)
    refine gx_get K hK hsh 5 (v := .int (I (a + 245 + 2 * i5) 5)) 21 in_X3 (sh_23 hsh (sh_1_house hsh ha) hi6) rfl (Nat.le_of_ble_eq_true rfl) rfl (by decide) (Or.inr (nf_q269 hK.2)) rfl dX1_leaves_18 rfl ?_
    refine g_if_ne K 24 25 dX1_leaves_21 rfl (by decide) (fun _ => ?_) (fun _ => ?_)
    · exact gx_vret K hK hsh hr hlk dX1_leaves_24 rfl
    · refine g_aloadn K 0 rfl rfl 26 dX1_leaves_25 rfl ?_
      refine gx_call K hK hsh 29 (ctx_x1_standing P I a ha) (lw_V q1070 q1071 q1072 q152 q1073) wd_x1_standing ha rfl (Nat.le_of_ble_eq_true rfl) rfl (by decide) rfl (Nat.le_of_ble_eq_true rfl) dX1_leaves_26 rfl (fun r7 hr8 => ?_)
      refine g_aloadn K 0 rfl rfl 30 dX1_leaves_29 rfl ?_
      refine gx_getp K hK hsh 13 (20, 12, 0) 33 in_X1 ha rfl (Nat.le_of_ble_eq_true rfl) rfl (by decide) (Or.inl q323) rfl dX1_leaves_30 rfl (fun b9 hb10 => ?_)
      refine g_iloadn K 1 rfl rfl 34 dX1_leaves_33 rfl ?_
      refine gx_ald K hK hsh 35 hb10 dX1_leaves_34 rfl (fun v11 => ?_)
      refine g_iand K 36 dX1_leaves_35 rfl ?_
      refine g_istoren K [(0, .ref a), (1, .int x1), (2, .int (r7 &&& v11))] [1, 2, 0] rfl (by decide) rfl 37 dX1_leaves_36 rfl ?_
      refine g_aloadn K 0 rfl rfl 38 dX1_leaves_37 rfl ?_
      refine g_iloadn K 1 rfl rfl 39 dX1_leaves_38 rfl ?_
      refine g_iloadn K 2 rfl rfl 40 dX1_leaves_39 rfl ?_
      refine g_jn (head := 51) (L := fun j12 => [(0, .ref a)]) (sf := fun j12 => [.int j12, .int x1, .ref a]) (mf := fun j12 => (P, I)) (fun j12 => ?_) (fun k13 h14 => ?_)
      · try dsimp only
        refine gx_call K hK hsh 54 (ctx_x1_moves_2 P I a x1 j12 ha) (lw_V q1078 q1079 q1080 q152 q1081) wd_x1_moves_2 ha rfl (Nat.le_of_ble_eq_true rfl) rfl (by decide) rfl (Nat.le_of_ble_eq_true rfl) dX1_leaves_51 rfl (fun r15 hr16 => ?_)
        exact gx_vret K hK hsh hr hlk dX1_leaves_54 rfl
      · refine g_if_ne K 43 47 dX1_leaves_40 rfl (by decide) (fun _ => ?_) (fun _ => ?_)
        · refine g_iconst K (-1 : Int32) ic_m1 44 dX1_leaves_43 rfl ?_
          refine g_goto K 51 dX1_leaves_44 (by decide) ?_
          refine g_sub (ls' := [(0, .ref a)]) [0] rfl ?_
          exact h14 (-1 : Int32)
        · refine g_iloadn K 2 rfl rfl 48 dX1_leaves_47 rfl ?_
          refine g_callS K 51 (cts_j4_numberOfTrailingZeros (r7 &&& v11)) (lw_S q1074 q1075 q160 q1076) wds_j4_numberOfTrailingZeros (by decide) rfl (Nat.le_of_ble_eq_true rfl) dX1_leaves_48 rfl (fun r17 _ => ?_)
          refine g_sub (ls' := [(0, .ref a)]) [0] rfl ?_
          exact h14 r17
  · exact gx_vret K hK hsh hr hlk dX1_leaves_24 rfl
/-- GingerRents$Borough.weds(I)V -/
def x1_weds (kd : Kd) (P : Ptr) (I : Mem) (a : Nat) (x1 : Int32) : Option (Mem) :=
  (ix 12 x1).bind fun i1 =>
  nm (up2 I (a + 245 + 2 * i1) 7 (nI 1)) fun I3 =>
  (x3_thickest I3 (a + 245 + 2 * i1)).bind fun r4 =>
  (x3_loses I3 (a + 245 + 2 * i1) r4 (nI 10)).bind fun r6 =>
  nm (up2 r6.2 (a + 245 + 2 * i1) 5 ((r6.2 (a + 245 + 2 * i1) 5) + (nI 1))) fun I8 =>
  (x1_notes I8 a (nI 5) x1 (I8 (a + 245 + 2 * i1) 5)).bind fun r9 =>
  (x1_leaves kd P r9 a x1).bind fun r11 =>
  some r11
theorem wd_x1_weds : yX1_weds.cls = RX1 ∧ yX1_weds.cls ≠ "java/lang/invoke/MethodHandle" ∧ yX1_weds.cls ≠ "java/lang/invoke/VarHandle" ∧ (parseMethodDescriptor yX1_weds.desc).map (fun d => d.parameters.length) = some 1 := by decide +kernel
set_option maxRecDepth 100000 in
theorem ctx_x1_weds {cs : Cs} {z : Nat} {kd : Kd} (P : Ptr) (I : Mem) (a : Nat) (x1 : Int32) (ha : kd a = (1, 0, 0)) : CtX cs z kd yX1_weds cX1_weds 3 none 4 89 [.ref a, .int x1] (P, I) (fun r => (none, (P, r))) (x1_weds kd P I a x1) := by
  refine CtX.of RX1 (by decide) rfl (Nat.le_of_ble_eq_true rfl) ?_
  intro l D sz p e s m args below meth c hsh K hr hlk hK
  refine g_sub (ls' := [(0, .ref a), (1, .int x1)]) [0, 1] rfl ?_
  unfold x1_weds
  refine g_aloadn K 0 rfl rfl 1 dX1_weds_0 rfl ?_
  refine gx_get K hK hsh 0 (v := .ref (a + 1)) 4 in_X1 ha rfl (Nat.le_of_ble_eq_true rfl) rfl (by decide) (Or.inl q294) rfl dX1_weds_1 rfl ?_
  refine g_iloadn K 1 rfl rfl 5 dX1_weds_4 rfl ?_
  refine gx_hal K hK hsh 6 (sh_1_house hsh ha) dX1_weds_5 rfl (fun i1 hi2 => ?_)
  refine g_astoren K [(0, .ref a), (1, .int x1), (2, .ref (a + 245 + 2 * i1))] [1, 2, 0] rfl (by decide) rfl 7 dX1_weds_6 rfl ?_
  refine g_aloadn K 2 rfl rfl 8 dX1_weds_7 rfl ?_
  refine g_iconst K (nI 1) ic_1 9 dX1_weds_8 rfl ?_
  refine gx_put K hK hsh 7 (ty := .boolean) 12 in_X3 tyX3 tyX3_ok nmX3 (sh_23 hsh (sh_1_house hsh ha) hi2) rfl rfl (Nat.le_of_ble_eq_true rfl) rfl (by decide) (Or.inr (nf_q275 hK.2)) rfl (by decide +kernel) rfl rfl (Nat.le_of_ble_eq_true rfl) dX1_weds_9 rfl (fun I3 _ => ?_)
  refine g_aloadn K 2 rfl rfl 13 dX1_weds_12 rfl ?_
  refine g_aloadn K 2 rfl rfl 14 dX1_weds_13 rfl ?_
  refine gx_call K hK hsh 17 (ctx_x3_thickest P I3 (a + 245 + 2 * i1) (sh_23 hsh (sh_1_house hsh ha) hi2)) (lw_V q1053 q1054 q1055 q157 q1056) wd_x3_thickest (sh_23 hsh (sh_1_house hsh ha) hi2) rfl (Nat.le_of_ble_eq_true rfl) rfl (by decide) rfl (Nat.le_of_ble_eq_true rfl) dX1_weds_14 rfl (fun r4 hr5 => ?_)
  refine g_bipush K (nI 10) bp_10 19 dX1_weds_17 rfl ?_
  refine gx_call K hK hsh 22 (ctx_x3_loses P I3 (a + 245 + 2 * i1) r4 (nI 10) (sh_23 hsh (sh_1_house hsh ha) hi2)) (lw_V q1057 q1058 q1059 q157 q1060) wd_x3_loses (sh_23 hsh (sh_1_house hsh ha) hi2) rfl (Nat.le_of_ble_eq_true rfl) rfl (by decide) rfl (Nat.le_of_ble_eq_true rfl) dX1_weds_19 rfl (fun r6 hr7 => ?_)
  refine g_pop K rfl 23 dX1_weds_22 rfl ?_
  refine g_aloadn K 2 rfl rfl 24 dX1_weds_23 rfl ?_
  refine g_dup K rfl 25 dX1_weds_24 rfl ?_
  refine gx_get K hK hsh 5 (v := .int (r6.2 (a + 245 + 2 * i1) 5)) 28 in_X3 (sh_23 hsh (sh_1_house hsh ha) hi2) rfl (Nat.le_of_ble_eq_true rfl) rfl (by decide) (Or.inr (nf_q269 hK.2)) rfl dX1_weds_25 rfl ?_
  refine g_iconst K (nI 1) ic_1 29 dX1_weds_28 rfl ?_
  refine g_iadd K 30 dX1_weds_29 rfl ?_
  refine gx_put K hK hsh 5 (ty := .int) 33 in_X3 tyX3 tyX3_ok nmX3 (sh_23 hsh (sh_1_house hsh ha) hi2) rfl rfl (Nat.le_of_ble_eq_true rfl) rfl (by decide) (Or.inr (nf_q269 hK.2)) rfl (by decide +kernel) rfl rfl (Nat.le_of_ble_eq_true rfl) dX1_weds_30 rfl (fun I8 _ => ?_)
  refine g_aloadn K 0 rfl rfl 34 dX1_weds_33 rfl ?_
  refine g_iconst K (nI 5) ic_5 35 dX1_weds_34 rfl ?_
  refine g_iloadn K 1 rfl rfl 36 dX1_weds_35 rfl ?_
  refine g_aloadn K 2 rfl rfl 37 dX1_weds_36 rfl ?_
  refine gx_get K hK hsh 5 (v := .int (I8 (a + 245 + 2 * i1) 5)) 40 in_X3 (sh_23 hsh (sh_1_house hsh ha) hi2) rfl (Nat.le_of_ble_eq_true rfl) rfl (by decide) (Or.inr (nf_q269 hK.2)) rfl dX1_weds_37 rfl ?_
  refine gx_call K hK hsh 43 (ctx_x1_notes P I8 a (nI 5) x1 (I8 (a + 245 + 2 * i1) 5) ha) (lw_V q1062 q1064 qs34 q152 q1065) wd_x1_notes ha rfl (Nat.le_of_ble_eq_true rfl) rfl (by decide) rfl (Nat.le_of_ble_eq_true rfl) dX1_weds_40 rfl (fun r9 hr10 => ?_)
  refine g_aloadn K 0 rfl rfl 44 dX1_weds_43 rfl ?_
  refine g_iloadn K 1 rfl rfl 45 dX1_weds_44 rfl ?_
  refine gx_call K hK hsh 48 (ctx_x1_leaves P r9 a x1 ha) (lw_V q1066 q1067 q1068 q152 q1069) wd_x1_leaves ha rfl (Nat.le_of_ble_eq_true rfl) rfl (by decide) rfl (Nat.le_of_ble_eq_true rfl) dX1_weds_45 rfl (fun r11 hr12 => ?_)
  exact gx_vret K hK hsh hr hlk dX1_weds_48 rfl
/-- GingerRents$Borough.razes(I)V -/
def x1_razes (kd : Kd) (P : Ptr) (I : Mem) (a : Nat) (x1 : Int32) : Option (Mem) :=
  jn (fun (j1 : Mem) =>
  (x1_leaves kd P j1 a x1).bind fun r4 =>
  some r4) (fun k2 =>
  lp (fun again7 (j6 : Int32 × Mem) =>
  if (nI 4) ≤ j6.1 then
  k2 j6.2
  else
  (ix 12 x1).bind fun i9 =>
  (wr j6.2 (a + 245 + 2 * i9 + 1) 4 j6.1 (nI 0)).bind fun I11 =>
  again7 ((j6.1 + (nI 1)), I11)) fuel ((nI 0), I))
theorem wd_x1_razes : yX1_razes.cls = RX1 ∧ yX1_razes.cls ≠ "java/lang/invoke/MethodHandle" ∧ yX1_razes.cls ≠ "java/lang/invoke/VarHandle" ∧ (parseMethodDescriptor yX1_razes.desc).map (fun d => d.parameters.length) = some 1 := by decide +kernel
set_option maxRecDepth 100000 in
theorem ctx_x1_razes {cs : Cs} {z : Nat} {kd : Kd} (P : Ptr) (I : Mem) (a : Nat) (x1 : Int32) (ha : kd a = (1, 0, 0)) : CtX cs z kd yX1_razes cX1_razes 3 none 4 89 [.ref a, .int x1] (P, I) (fun r => (none, (P, r))) (x1_razes kd P I a x1) := by
  refine CtX.of RX1 (by decide) rfl (Nat.le_of_ble_eq_true rfl) ?_
  intro l D sz p e s m args below meth c hsh K hr hlk hK
  refine g_sub (ls' := [(0, .ref a), (1, .int x1)]) [0, 1] rfl ?_
  unfold x1_razes
  refine g_iconst K (nI 0) ic_0 1 dX1_razes_0 rfl ?_
  refine g_istoren K [(0, .ref a), (1, .int x1), (2, .int (nI 0))] [1, 2, 0] rfl (by decide) rfl 2 dX1_razes_1 rfl ?_
  refine g_jn (head := 25) (L := fun j1 => [(0, .ref a), (1, .int x1)]) (sf := fun j1 => []) (mf := fun j1 => (P, j1)) (fun j1 => ?_) (fun k2 h3 => ?_)
  · try dsimp only
    refine g_aloadn K 0 rfl rfl 26 dX1_razes_25 rfl ?_
    refine g_iloadn K 1 rfl rfl 27 dX1_razes_26 rfl ?_
    refine gx_call K hK hsh 30 (ctx_x1_leaves P j1 a x1 ha) (lw_V q1066 q1067 q1068 q152 q1069) wd_x1_leaves ha rfl (Nat.le_of_ble_eq_true rfl) rfl (by decide) rfl (Nat.le_of_ble_eq_true rfl) dX1_razes_27 rfl (fun r4 hr5 => ?_)
    exact gx_vret K hK hsh hr hlk dX1_razes_30 rfl
  · refine g_lp (head := 2) (L := fun j6 => [(0, .ref a), (1, .int x1), (2, .int j6.1)]) (sf := fun j6 => []) (mf := fun j6 => (P, j6.2)) (fun again7 h8 j6 => ?_) fuel ((nI 0), I)
    try dsimp only
    refine g_iloadn K 2 rfl rfl 3 dX1_razes_2 rfl ?_
    refine g_iconst K (nI 4) ic_4 4 dX1_razes_3 rfl ?_
    refine g_icmp_ge K 7 25 dX1_razes_4 rfl (by decide) (fun _ => ?_) (fun _ => ?_)
    · refine g_sub (ls' := [(0, .ref a), (1, .int x1)]) [0, 1] rfl ?_
      exact h3 j6.2
    · refine g_aloadn K 0 rfl rfl 8 dX1_razes_7 rfl ?_
      refine gx_get K hK hsh 0 (v := .ref (a + 1)) 11 in_X1 ha rfl (Nat.le_of_ble_eq_true rfl) rfl (by decide) (Or.inl q294) rfl dX1_razes_8 rfl ?_
      refine g_iloadn K 1 rfl rfl 12 dX1_razes_11 rfl ?_
      refine gx_hal K hK hsh 13 (sh_1_house hsh ha) dX1_razes_12 rfl (fun i9 hi10 => ?_)
      refine gx_get K hK hsh 0 (v := .ref (a + 245 + 2 * i9 + 1)) 16 in_X3 (sh_23 hsh (sh_1_house hsh ha) hi10) rfl (Nat.le_of_ble_eq_true rfl) rfl (by decide) (Or.inr (nf_q253 hK.2)) rfl dX1_razes_13 rfl ?_
      refine g_iloadn K 2 rfl rfl 17 dX1_razes_16 rfl ?_
      refine g_iconst K (nI 0) ic_0 18 dX1_razes_17 rfl ?_
      refine gx_ast K hK hsh 19 (sh_3_wall hsh (sh_23 hsh (sh_1_house hsh ha) hi10)) dX1_razes_18 rfl (fun I11 => ?_)
      refine g_iinc K (j6.1 + (nI 1)) 2 [(0, .ref a), (1, .int x1), (2, .int (j6.1 + (nI 1)))] [1, 2, 0] rfl (by rw [ic_1]) (by decide) rfl 22 dX1_razes_19 rfl ?_
      refine g_goto K 2 dX1_razes_22 (by decide) ?_
      exact h8 ((j6.1 + (nI 1)), I11)
/-- GingerRents$Borough.nibbles(III)V -/
def x1_nibbles (kd : Kd) (P : Ptr) (I : Mem) (a : Nat) (x1 : Int32) (x2 : Int32) (x3 : Int32) : Option (Mem) :=
  (ix 12 x1).bind fun i1 =>
  (x3_loses I (a + 245 + 2 * i1) x2 x3).bind fun r3 =>
  nm (up2 r3.2 a 17 ((r3.2 a 17) + x3)) fun I5 =>
  (x1_notes I5 a (nI 0) x1 x3).bind fun r6 =>
  (x1_leaves kd P r6 a x1).bind fun r8 =>
  some r8
theorem wd_x1_nibbles : yX1_nibbles.cls = RX1 ∧ yX1_nibbles.cls ≠ "java/lang/invoke/MethodHandle" ∧ yX1_nibbles.cls ≠ "java/lang/invoke/VarHandle" ∧ (parseMethodDescriptor yX1_nibbles.desc).map (fun d => d.parameters.length) = some 3 := by decide +kernel
set_option maxRecDepth 100000 in
theorem ctx_x1_nibbles {cs : Cs} {z : Nat} {kd : Kd} (P : Ptr) (I : Mem) (a : Nat) (x1 : Int32) (x2 : Int32) (x3 : Int32) (ha : kd a = (1, 0, 0)) : CtX cs z kd yX1_nibbles cX1_nibbles 4 none 4 89 [.ref a, .int x1, .int x2, .int x3] (P, I) (fun r => (none, (P, r))) (x1_nibbles kd P I a x1 x2 x3) := by
  refine CtX.of RX1 (by decide) rfl (Nat.le_of_ble_eq_true rfl) ?_
  intro l D sz p e s m args below meth c hsh K hr hlk hK
  refine g_sub (ls' := [(0, .ref a), (1, .int x1), (2, .int x2), (3, .int x3)]) [0, 1, 2, 3] rfl ?_
  unfold x1_nibbles
  refine g_aloadn K 0 rfl rfl 1 dX1_nibbles_0 rfl ?_
  refine gx_get K hK hsh 0 (v := .ref (a + 1)) 4 in_X1 ha rfl (Nat.le_of_ble_eq_true rfl) rfl (by decide) (Or.inl q294) rfl dX1_nibbles_1 rfl ?_
  refine g_iloadn K 1 rfl rfl 5 dX1_nibbles_4 rfl ?_
  refine gx_hal K hK hsh 6 (sh_1_house hsh ha) dX1_nibbles_5 rfl (fun i1 hi2 => ?_)
  refine g_iloadn K 2 rfl rfl 7 dX1_nibbles_6 rfl ?_
  refine g_iloadn K 3 rfl rfl 8 dX1_nibbles_7 rfl ?_
  refine gx_call K hK hsh 11 (ctx_x3_loses P I (a + 245 + 2 * i1) x2 x3 (sh_23 hsh (sh_1_house hsh ha) hi2)) (lw_V q1057 q1058 q1059 q157 q1060) wd_x3_loses (sh_23 hsh (sh_1_house hsh ha) hi2) rfl (Nat.le_of_ble_eq_true rfl) rfl (by decide) rfl (Nat.le_of_ble_eq_true rfl) dX1_nibbles_8 rfl (fun r3 hr4 => ?_)
  refine g_pop K rfl 12 dX1_nibbles_11 rfl ?_
  refine g_aloadn K 0 rfl rfl 13 dX1_nibbles_12 rfl ?_
  refine g_dup K rfl 14 dX1_nibbles_13 rfl ?_
  refine gx_get K hK hsh 17 (v := .int (r3.2 a 17)) 17 in_X1 ha rfl (Nat.le_of_ble_eq_true rfl) rfl (by decide) (Or.inl q334) rfl dX1_nibbles_14 rfl ?_
  refine g_iloadn K 3 rfl rfl 18 dX1_nibbles_17 rfl ?_
  refine g_iadd K 19 dX1_nibbles_18 rfl ?_
  refine gx_put K hK hsh 17 (ty := .int) 22 in_X1 tyX1 tyX1_ok nmX1 ha rfl rfl (Nat.le_of_ble_eq_true rfl) rfl (by decide) (Or.inl q334) rfl (by decide +kernel) rfl rfl (Nat.le_of_ble_eq_true rfl) dX1_nibbles_19 rfl (fun I5 _ => ?_)
  refine g_aloadn K 0 rfl rfl 23 dX1_nibbles_22 rfl ?_
  refine g_iconst K (nI 0) ic_0 24 dX1_nibbles_23 rfl ?_
  refine g_iloadn K 1 rfl rfl 25 dX1_nibbles_24 rfl ?_
  refine g_iloadn K 3 rfl rfl 26 dX1_nibbles_25 rfl ?_
  refine gx_call K hK hsh 29 (ctx_x1_notes P I5 a (nI 0) x1 x3 ha) (lw_V q1062 q1064 qs34 q152 q1065) wd_x1_notes ha rfl (Nat.le_of_ble_eq_true rfl) rfl (by decide) rfl (Nat.le_of_ble_eq_true rfl) dX1_nibbles_26 rfl (fun r6 hr7 => ?_)
  refine g_aloadn K 0 rfl rfl 30 dX1_nibbles_29 rfl ?_
  refine g_iloadn K 1 rfl rfl 31 dX1_nibbles_30 rfl ?_
  refine gx_call K hK hsh 34 (ctx_x1_leaves P r6 a x1 ha) (lw_V q1066 q1067 q1068 q152 q1069) wd_x1_leaves ha rfl (Nat.le_of_ble_eq_true rfl) rfl (by decide) rfl (Nat.le_of_ble_eq_true rfl) dX1_nibbles_31 rfl (fun r8 hr9 => ?_)
  exact gx_vret K hK hsh hr hlk dX1_nibbles_34 rfl
/-- GingerRents$Borough.fact(I)I -/
def x1_fact (kd : Kd) (P : Ptr) (I : Mem) (a : Nat) (x1 : Int32) : Option (Int32) :=
  if x1 = (nI 0) then
  (pk kd (P a 24) (3, 0, 0)).bind fun b1 =>
  (rd I (b1 + 1) 4 (I a 25)).bind fun v3 =>
  some v3
  else
  if x1 = (nI 1) then
  (pk kd (P a 24) (3, 0, 0)).bind fun b5 =>
  (x3_sum I b5).bind fun r7 =>
  some r7
  else
  if x1 = (nI 2) then
  (pk kd (P a 24) (3, 0, 0)).bind fun b10 =>
  some (I b10 1)
  else
  if x1 = (nI 3) then
  (pk kd (P a 24) (3, 0, 0)).bind fun b13 =>
  some (I b13 2)
  else
  if x1 = (nI 4) then
  (pk kd (P a 24) (3, 0, 0)).bind fun b16 =>
  some (I b16 3)
  else
  if x1 = (nI 5) then
  (pk kd (P a 24) (3, 0, 0)).bind fun b19 =>
  some (I b19 4)
  else
  if x1 = (nI 6) then
  (pk kd (P a 24) (3, 0, 0)).bind fun b22 =>
  some (I b22 5)
  else
  if x1 = (nI 7) then
  (pk kd (P a 24) (3, 0, 0)).bind fun b25 =>
  if (I b25 7) = 0 then
  some (nI 0)
  else
  some (nI 1)
  else
  if x1 = (nI 8) then
  (pk kd (P a 24) (3, 0, 0)).bind fun b28 =>
  some (I b28 6)
  else
  if x1 = (nI 9) then
  some (I a 15)
  else
  if x1 = (nI 10) then
  some (I a 16)
  else
  some (I a 19)
theorem wd_x1_fact : yX1_fact.cls = RX1 ∧ yX1_fact.cls ≠ "java/lang/invoke/MethodHandle" ∧ yX1_fact.cls ≠ "java/lang/invoke/VarHandle" ∧ (parseMethodDescriptor yX1_fact.desc).map (fun d => d.parameters.length) = some 1 := by decide +kernel
set_option maxRecDepth 100000 in
theorem ctx_x1_fact {cs : Cs} {z : Nat} {kd : Kd} (P : Ptr) (I : Mem) (a : Nat) (x1 : Int32) (ha : kd a = (1, 0, 0)) : CtX cs z kd yX1_fact cX1_fact 2 (some .int) 1 25 [.ref a, .int x1] (P, I) (fun r => (some (.int r), (P, I))) (x1_fact kd P I a x1) := by
  refine CtX.of RX1 (by decide) rfl (Nat.le_of_ble_eq_true rfl) ?_
  intro l D sz p e s m args below meth c hsh K hr hlk hK
  refine g_sub (ls' := [(0, .ref a), (1, .int x1)]) [0, 1] rfl ?_
  unfold x1_fact
  refine g_iloadn K 1 rfl rfl 1 dX1_fact_0 rfl ?_
  refine g_tcase K (nI 0) 60 dX1_fact_1 (by decide) (by decide) rfl (by decide) (fun _ => ?_) (fun hx4 => ?_)
  · refine g_aloadn K 0 rfl rfl 61 dX1_fact_60 rfl ?_
    refine gx_getp K hK hsh 24 (3, 0, 0) 64 in_X1 ha rfl (Nat.le_of_ble_eq_true rfl) rfl (by decide) (Or.inl q348) rfl dX1_fact_61 rfl (fun b1 hb2 => ?_)
    refine gx_get K hK hsh 0 (v := .ref (b1 + 1)) 67 in_X3 hb2 rfl (Nat.le_of_ble_eq_true rfl) rfl (by decide) (Or.inr (nf_q253 hK.2)) rfl dX1_fact_64 rfl ?_
    refine g_aloadn K 0 rfl rfl 68 dX1_fact_67 rfl ?_
    refine gx_get K hK hsh 25 (v := .int (I a 25)) 71 in_X1 ha rfl (Nat.le_of_ble_eq_true rfl) rfl (by decide) (Or.inl q349) rfl dX1_fact_68 rfl ?_
    refine gx_ald K hK hsh 72 (sh_3_wall hsh hb2) dX1_fact_71 rfl (fun v3 => ?_)
    exact gx_iret K hK hsh hr hlk dX1_fact_72 rfl
  · refine g_tcase K (nI 1) 73 dX1_fact_1 (by decide) (by decide) rfl (by decide) (fun _ => ?_) (fun hx9 => ?_)
    · refine g_aloadn K 0 rfl rfl 74 dX1_fact_73 rfl ?_
      refine gx_getp K hK hsh 24 (3, 0, 0) 77 in_X1 ha rfl (Nat.le_of_ble_eq_true rfl) rfl (by decide) (Or.inl q348) rfl dX1_fact_74 rfl (fun b5 hb6 => ?_)
      refine gx_call K hK hsh 80 (ctx_x3_sum P I b5 hb6) (lw_V q1210 q1041 q1042 q157 q1043) wd_x3_sum hb6 rfl (Nat.le_of_ble_eq_true rfl) rfl (by decide) rfl (Nat.le_of_ble_eq_true rfl) dX1_fact_77 rfl (fun r7 hr8 => ?_)
      exact gx_iret K hK hsh hr hlk dX1_fact_80 rfl
    · refine g_tcase K (nI 2) 81 dX1_fact_1 (by decide) (by decide) rfl (by decide) (fun _ => ?_) (fun hx12 => ?_)
      · refine g_aloadn K 0 rfl rfl 82 dX1_fact_81 rfl ?_
        refine gx_getp K hK hsh 24 (3, 0, 0) 85 in_X1 ha rfl (Nat.le_of_ble_eq_true rfl) rfl (by decide) (Or.inl q348) rfl dX1_fact_82 rfl (fun b10 hb11 => ?_)
        refine gx_get K hK hsh 1 (v := .int (I b10 1)) 88 in_X3 hb11 rfl (Nat.le_of_ble_eq_true rfl) rfl (by decide) (Or.inr (nf_q256 hK.2)) rfl dX1_fact_85 rfl ?_
        exact gx_iret K hK hsh hr hlk dX1_fact_88 rfl
      · refine g_tcase K (nI 3) 89 dX1_fact_1 (by decide) (by decide) rfl (by decide) (fun _ => ?_) (fun hx15 => ?_)
        · refine g_aloadn K 0 rfl rfl 90 dX1_fact_89 rfl ?_
          refine gx_getp K hK hsh 24 (3, 0, 0) 93 in_X1 ha rfl (Nat.le_of_ble_eq_true rfl) rfl (by decide) (Or.inl q348) rfl dX1_fact_90 rfl (fun b13 hb14 => ?_)
          refine gx_get K hK hsh 2 (v := .int (I b13 2)) 96 in_X3 hb14 rfl (Nat.le_of_ble_eq_true rfl) rfl (by decide) (Or.inr (nf_q259 hK.2)) rfl dX1_fact_93 rfl ?_
          exact gx_iret K hK hsh hr hlk dX1_fact_96 rfl
        · refine g_tcase K (nI 4) 97 dX1_fact_1 (by decide) (by decide) rfl (by decide) (fun _ => ?_) (fun hx18 => ?_)
          · refine g_aloadn K 0 rfl rfl 98 dX1_fact_97 rfl ?_
            refine gx_getp K hK hsh 24 (3, 0, 0) 101 in_X1 ha rfl (Nat.le_of_ble_eq_true rfl) rfl (by decide) (Or.inl q348) rfl dX1_fact_98 rfl (fun b16 hb17 => ?_)
            refine gx_get K hK hsh 3 (v := .int (I b16 3)) 104 in_X3 hb17 rfl (Nat.le_of_ble_eq_true rfl) rfl (by decide) (Or.inr (nf_q262 hK.2)) rfl dX1_fact_101 rfl ?_
            exact gx_iret K hK hsh hr hlk dX1_fact_104 rfl
          · refine g_tcase K (nI 5) 105 dX1_fact_1 (by decide) (by decide) rfl (by decide) (fun _ => ?_) (fun hx21 => ?_)
            · refine g_aloadn K 0 rfl rfl 106 dX1_fact_105 rfl ?_
              refine gx_getp K hK hsh 24 (3, 0, 0) 109 in_X1 ha rfl (Nat.le_of_ble_eq_true rfl) rfl (by decide) (Or.inl q348) rfl dX1_fact_106 rfl (fun b19 hb20 => ?_)
              refine gx_get K hK hsh 4 (v := .int (I b19 4)) 112 in_X3 hb20 rfl (Nat.le_of_ble_eq_true rfl) rfl (by decide) (Or.inr (nf_q266 hK.2)) rfl dX1_fact_109 rfl ?_
              exact gx_iret K hK hsh hr hlk dX1_fact_112 rfl
            · refine g_tcase K (nI 6) 113 dX1_fact_1 (by decide) (by decide) rfl (by decide) (fun _ => ?_) (fun hx24 => ?_)
              · refine g_aloadn K 0 rfl rfl 114 dX1_fact_113 rfl ?_
                refine gx_getp K hK hsh 24 (3, 0, 0) 117 in_X1 ha rfl (Nat.le_of_ble_eq_true rfl) rfl (by decide) (Or.inl q348) rfl dX1_fact_114 rfl (fun b22 hb23 => ?_)
                refine gx_get K hK hsh 5 (v := .int (I b22 5)) 120 in_X3 hb23 rfl (Nat.le_of_ble_eq_true rfl) rfl (by decide) (Or.inr (nf_q269 hK.2)) rfl dX1_fact_117 rfl ?_
                exact gx_iret K hK hsh hr hlk dX1_fact_120 rfl
              · refine g_tcase K (nI 7) 121 dX1_fact_1 (by decide) (by decide) rfl (by decide) (fun _ => ?_) (fun hx27 => ?_)
                · refine g_aloadn K 0 rfl rfl 122 dX1_fact_121 rfl ?_
                  refine gx_getp K hK hsh 24 (3, 0, 0) 125 in_X1 ha rfl (Nat.le_of_ble_eq_true rfl) rfl (by decide) (Or.inl q348) rfl dX1_fact_122 rfl (fun b25 hb26 => ?_)
                  refine gx_get K hK hsh 7 (v := .int (I b25 7)) 128 in_X3 hb26 rfl (Nat.le_of_ble_eq_true rfl) rfl (by decide) (Or.inr (nf_q275 hK.2)) rfl dX1_fact_125 rfl ?_
                  refine g_if_eq K 131 135 dX1_fact_128 rfl (by decide) (fun _ => ?_) (fun _ => ?_)
                  · refine g_iconst K (nI 0) ic_0 136 dX1_fact_135 rfl ?_
                    exact gx_iret K hK hsh hr hlk dX1_fact_136 rfl
                  · refine g_iconst K (nI 1) ic_1 132 dX1_fact_131 rfl ?_
                    refine g_goto K 136 dX1_fact_132 (by decide) ?_
                    exact gx_iret K hK hsh hr hlk dX1_fact_136 rfl
                · refine g_tcase K (nI 8) 137 dX1_fact_1 (by decide) (by decide) rfl (by decide) (fun _ => ?_) (fun hx30 => ?_)
                  · refine g_aloadn K 0 rfl rfl 138 dX1_fact_137 rfl ?_
                    refine gx_getp K hK hsh 24 (3, 0, 0) 141 in_X1 ha rfl (Nat.le_of_ble_eq_true rfl) rfl (by decide) (Or.inl q348) rfl dX1_fact_138 rfl (fun b28 hb29 => ?_)
                    refine gx_get K hK hsh 6 (v := .int (I b28 6)) 144 in_X3 hb29 rfl (Nat.le_of_ble_eq_true rfl) rfl (by decide) (Or.inr (nf_q272 hK.2)) rfl dX1_fact_141 rfl ?_
                    exact gx_iret K hK hsh hr hlk dX1_fact_144 rfl
                  · refine g_tcase K (nI 9) 145 dX1_fact_1 (by decide) (by decide) rfl (by decide) (fun _ => ?_) (fun hx31 => ?_)
                    · refine g_aloadn K 0 rfl rfl 146 dX1_fact_145 rfl ?_
                      refine gx_get K hK hsh 15 (v := .int (I a 15)) 149 in_X1 ha rfl (Nat.le_of_ble_eq_true rfl) rfl (by decide) (Or.inl q329) rfl dX1_fact_146 rfl ?_
                      exact gx_iret K hK hsh hr hlk dX1_fact_149 rfl
                    · refine g_tcase K (nI 10) 150 dX1_fact_1 (by decide) (by decide) rfl (by decide) (fun _ => ?_) (fun hx32 => ?_)
                      · refine g_aloadn K 0 rfl rfl 151 dX1_fact_150 rfl ?_
                        refine gx_get K hK hsh 16 (v := .int (I a 16)) 154 in_X1 ha rfl (Nat.le_of_ble_eq_true rfl) rfl (by decide) (Or.inl q332) rfl dX1_fact_151 rfl ?_
                        exact gx_iret K hK hsh hr hlk dX1_fact_154 rfl
                      · refine g_tdef K 155 dX1_fact_1 (by have := tne (k := 0) (by decide) hx4; have := tne (k := 1) (by decide) hx9; have := tne (k := 2) (by decide) hx12; have := tne (k := 3) (by decide) hx15; have := tne (k := 4) (by decide) hx18; have := tne (k := 5) (by decide) hx21; have := tne (k := 6) (by decide) hx24; have := tne (k := 7) (by decide) hx27; have := tne (k := 8) (by decide) hx30; have := tne (k := 9) (by decide) hx31; have := tne (k := 10) (by decide) hx32; omega) (by decide) ?_
                        refine g_aloadn K 0 rfl rfl 156 dX1_fact_155 rfl ?_
                        refine gx_get K hK hsh 19 (v := .int (I a 19)) 159 in_X1 ha rfl (Nat.le_of_ble_eq_true rfl) rfl (by decide) (Or.inl q338) rfl dX1_fact_156 rfl ?_
                        exact gx_iret K hK hsh hr hlk dX1_fact_159 rfl
/-- GingerRents$Borough.counts(III)V -/
def x1_counts (I : Mem) (a : Nat) (x1 : Int32) (x2 : Int32) (x3 : Int32) : Option (Mem) :=
  if x3 ≤ 0 then
  some I
  else
  (x1_notes I a x1 x2 x3).bind fun r1 =>
  some r1
theorem wd_x1_counts : yX1_counts.cls = RX1 ∧ yX1_counts.cls ≠ "java/lang/invoke/MethodHandle" ∧ yX1_counts.cls ≠ "java/lang/invoke/VarHandle" ∧ (parseMethodDescriptor yX1_counts.desc).map (fun d => d.parameters.length) = some 3 := by decide +kernel
set_option maxRecDepth 100000 in
theorem ctx_x1_counts {cs : Cs} {z : Nat} {kd : Kd} (P : Ptr) (I : Mem) (a : Nat) (x1 : Int32) (x2 : Int32) (x3 : Int32) (ha : kd a = (1, 0, 0)) : CtX cs z kd yX1_counts cX1_counts 4 none 1 24 [.ref a, .int x1, .int x2, .int x3] (P, I) (fun r => (none, (P, r))) (x1_counts I a x1 x2 x3) := by
  refine CtX.of RX1 (by decide) rfl (Nat.le_of_ble_eq_true rfl) ?_
  intro l D sz p e s m args below meth c hsh K hr hlk hK
  refine g_sub (ls' := [(0, .ref a), (1, .int x1), (2, .int x2), (3, .int x3)]) [0, 1, 2, 3] rfl ?_
  unfold x1_counts
  refine g_iloadn K 3 rfl rfl 1 dX1_counts_0 rfl ?_
  refine g_if_le K 4 11 dX1_counts_1 rfl (by decide) (fun _ => ?_) (fun _ => ?_)
  · exact gx_vret K hK hsh hr hlk dX1_counts_11 rfl
  · refine g_aloadn K 0 rfl rfl 5 dX1_counts_4 rfl ?_
    refine g_iloadn K 1 rfl rfl 6 dX1_counts_5 rfl ?_
    refine g_iloadn K 2 rfl rfl 7 dX1_counts_6 rfl ?_
    refine g_iloadn K 3 rfl rfl 8 dX1_counts_7 rfl ?_
    refine gx_call K hK hsh 11 (ctx_x1_notes P I a x1 x2 x3 ha) (lw_V q1062 q1064 qs34 q152 q1065) wd_x1_notes ha rfl (Nat.le_of_ble_eq_true rfl) rfl (by decide) rfl (Nat.le_of_ble_eq_true rfl) dX1_counts_8 rfl (fun r1 hr2 => ?_)
    exact gx_vret K hK hsh hr hlk dX1_counts_11 rfl
/-- GingerRents$Borough.draw(I)I -/
def x1_draw (I : Mem) (a : Nat) (x1 : Int32) : Option (Int32 × Mem) :=
  nm (up2 I a 20 (((1664525 : Int32) * (I a 20)) + (1013904223 : Int32))) fun I1 =>
  (iremO (ush (I1 a 20) (nI 8)) x1).bind fun v2 =>
  some (v2, I1)
theorem wd_x1_draw : yX1_draw.cls = RX1 ∧ yX1_draw.cls ≠ "java/lang/invoke/MethodHandle" ∧ yX1_draw.cls ≠ "java/lang/invoke/VarHandle" ∧ (parseMethodDescriptor yX1_draw.desc).map (fun d => d.parameters.length) = some 1 := by decide +kernel
set_option maxRecDepth 100000 in
theorem ctx_x1_draw {cs : Cs} {z : Nat} {kd : Kd} (P : Ptr) (I : Mem) (a : Nat) (x1 : Int32) (ha : kd a = (1, 0, 0)) : CtX cs z kd yX1_draw cX1_draw 2 (some .int) 0 0 [.ref a, .int x1] (P, I) (fun r => (some (.int r.1), (P, r.2))) (x1_draw I a x1) := by
  refine CtX.of RX1 (by decide) rfl (Nat.le_of_ble_eq_true rfl) ?_
  intro l D sz p e s m args below meth c hsh K hr hlk hK
  refine g_sub (ls' := [(0, .ref a), (1, .int x1)]) [0, 1] rfl ?_
  unfold x1_draw
  refine g_aloadn K 0 rfl rfl 1 dX1_draw_0 rfl ?_
  refine g_ldc K q1237 3 dX1_draw_1 rfl ?_
  refine g_aloadn K 0 rfl rfl 4 dX1_draw_3 rfl ?_
  refine gx_get K hK hsh 20 (v := .int (I a 20)) 7 in_X1 ha rfl (Nat.le_of_ble_eq_true rfl) rfl (by decide) (Or.inl q340) rfl dX1_draw_4 rfl ?_
  refine g_imul K 8 dX1_draw_7 rfl ?_
  refine g_ldc K q1238 10 dX1_draw_8 rfl ?_
  refine g_iadd K 11 dX1_draw_10 rfl ?_
  refine gx_put K hK hsh 20 (ty := .int) 14 in_X1 tyX1 tyX1_ok nmX1 ha rfl rfl (Nat.le_of_ble_eq_true rfl) rfl (by decide) (Or.inl q340) rfl (by decide +kernel) rfl rfl (Nat.le_of_ble_eq_true rfl) dX1_draw_11 rfl (fun I1 _ => ?_)
  refine g_aloadn K 0 rfl rfl 15 dX1_draw_14 rfl ?_
  refine gx_get K hK hsh 20 (v := .int (I1 a 20)) 18 in_X1 ha rfl (Nat.le_of_ble_eq_true rfl) rfl (by decide) (Or.inl q340) rfl dX1_draw_15 rfl ?_
  refine g_bipush K (nI 8) bp_8 20 dX1_draw_18 rfl ?_
  refine g_iushr K 21 dX1_draw_20 rfl ?_
  refine g_iloadn K 1 rfl rfl 22 dX1_draw_21 rfl ?_
  refine g_irem K 23 dX1_draw_22 rfl (fun v2 _ _ => ?_)
  exact gx_iret K hK hsh hr hlk dX1_draw_23 rfl
/-- GingerRents$Borough.thinks(LGingerRents$Borough;)V -/
def x1_thinks (kd : Kd) (P : Ptr) (I : Mem) (a : Nat) (x1 : Nat) : Option (Ptr × Mem) :=
  (x1_moves I a x1).bind fun r1 =>
  nm (up2 r1 a 14 (r1 x1 14)) fun I3 =>
  (pk kd (P x1 10) (18, 0, 0)).bind fun b4 =>
  nm (upP P a 10 (some b4)) fun P6 =>
  (pk kd (P6 x1 11) (18, 0, 0)).bind fun b7 =>
  nm (upP P6 a 11 (some b7)) fun P9 =>
  (pk kd (P9 x1 12) (18, 0, 0)).bind fun b10 =>
  nm (upP P9 a 12 (some b10)) fun P12 =>
  (pk kd (P12 x1 13) (20, 12, 0)).bind fun b13 =>
  nm (upP P12 a 13 (some b13)) fun P15 =>
  nm (up2 I3 a 22 (I3 x1 22)) fun I16 =>
  some (P15, I16)
theorem wd_x1_thinks : yX1_thinks.cls = RX1 ∧ yX1_thinks.cls ≠ "java/lang/invoke/MethodHandle" ∧ yX1_thinks.cls ≠ "java/lang/invoke/VarHandle" ∧ (parseMethodDescriptor yX1_thinks.desc).map (fun d => d.parameters.length) = some 1 := by decide +kernel
set_option maxRecDepth 100000 in
theorem ctx_x1_thinks {cs : Cs} {z : Nat} {kd : Kd} (P : Ptr) (I : Mem) (a : Nat) (x1 : Nat) (ha : kd a = (1, 0, 0)) (hx1 : kd x1 = (1, 0, 0)) : CtX cs z kd yX1_thinks cX1_thinks 2 none 2 44 [.ref a, .ref x1] (P, I) (fun r => (none, (r.1, r.2))) (x1_thinks kd P I a x1) := by
  refine CtX.of RX1 (by decide) rfl (Nat.le_of_ble_eq_true rfl) ?_
  intro l D sz p e s m args below meth c hsh K hr hlk hK
  refine g_sub (ls' := [(0, .ref a), (1, .ref x1)]) [0, 1] rfl ?_
  unfold x1_thinks
  refine g_aloadn K 0 rfl rfl 1 dX1_thinks_0 rfl ?_
  refine g_aloadn K 1 rfl rfl 2 dX1_thinks_1 rfl ?_
  refine gx_call K hK hsh 5 (ctx_x1_moves P I a x1 ha hx1) (lw_V q1273 q989 q990 q152 q991) wd_x1_moves ha rfl (Nat.le_of_ble_eq_true rfl) rfl (by decide) rfl (Nat.le_of_ble_eq_true rfl) dX1_thinks_2 rfl (fun r1 hr2 => ?_)
  refine g_aloadn K 0 rfl rfl 6 dX1_thinks_5 rfl ?_
  refine g_aloadn K 1 rfl rfl 7 dX1_thinks_6 rfl ?_
  refine gx_get K hK hsh 14 (v := .int (r1 x1 14)) 10 in_X1 hx1 rfl (Nat.le_of_ble_eq_true rfl) rfl (by decide) (Or.inl q325) rfl dX1_thinks_7 rfl ?_
  refine gx_put K hK hsh 14 (ty := .int) 13 in_X1 tyX1 tyX1_ok nmX1 ha rfl rfl (Nat.le_of_ble_eq_true rfl) rfl (by decide) (Or.inl q325) rfl (by decide +kernel) rfl rfl (Nat.le_of_ble_eq_true rfl) dX1_thinks_10 rfl (fun I3 _ => ?_)
  refine g_aloadn K 0 rfl rfl 14 dX1_thinks_13 rfl ?_
  refine g_aloadn K 1 rfl rfl 15 dX1_thinks_14 rfl ?_
  refine gx_getp K hK hsh 10 (18, 0, 0) 18 in_X1 hx1 rfl (Nat.le_of_ble_eq_true rfl) rfl (by decide) (Or.inl q317) rfl dX1_thinks_15 rfl (fun b4 hb5 => ?_)
  refine gx_putp K hK hsh 10 (ty := .object "java/util/ArrayList") 21 in_X1 tyX1 tyX1_ok nmX1 ha rfl rfl (Nat.le_of_ble_eq_true rfl) rfl (by decide) (Or.inl q317) rfl (by decide +kernel) rfl rfl (Nat.le_of_ble_eq_true rfl) dX1_thinks_18 rfl (fun P6 _ => ?_)
  refine g_aloadn K 0 rfl rfl 22 dX1_thinks_21 rfl ?_
  refine g_aloadn K 1 rfl rfl 23 dX1_thinks_22 rfl ?_
  refine gx_getp K hK hsh 11 (18, 0, 0) 26 in_X1 hx1 rfl (Nat.le_of_ble_eq_true rfl) rfl (by decide) (Or.inl q319) rfl dX1_thinks_23 rfl (fun b7 hb8 => ?_)
  refine gx_putp K hK hsh 11 (ty := .object "java/util/ArrayList") 29 in_X1 tyX1 tyX1_ok nmX1 ha rfl rfl (Nat.le_of_ble_eq_true rfl) rfl (by decide) (Or.inl q319) rfl (by decide +kernel) rfl rfl (Nat.le_of_ble_eq_true rfl) dX1_thinks_26 rfl (fun P9 _ => ?_)
  refine g_aloadn K 0 rfl rfl 30 dX1_thinks_29 rfl ?_
  refine g_aloadn K 1 rfl rfl 31 dX1_thinks_30 rfl ?_
  refine gx_getp K hK hsh 12 (18, 0, 0) 34 in_X1 hx1 rfl (Nat.le_of_ble_eq_true rfl) rfl (by decide) (Or.inl q321) rfl dX1_thinks_31 rfl (fun b10 hb11 => ?_)
  refine gx_putp K hK hsh 12 (ty := .object "java/util/ArrayList") 37 in_X1 tyX1 tyX1_ok nmX1 ha rfl rfl (Nat.le_of_ble_eq_true rfl) rfl (by decide) (Or.inl q321) rfl (by decide +kernel) rfl rfl (Nat.le_of_ble_eq_true rfl) dX1_thinks_34 rfl (fun P12 _ => ?_)
  refine g_aloadn K 0 rfl rfl 38 dX1_thinks_37 rfl ?_
  refine g_aloadn K 1 rfl rfl 39 dX1_thinks_38 rfl ?_
  refine gx_getp K hK hsh 13 (20, 12, 0) 42 in_X1 hx1 rfl (Nat.le_of_ble_eq_true rfl) rfl (by decide) (Or.inl q323) rfl dX1_thinks_39 rfl (fun b13 hb14 => ?_)
  refine gx_putp K hK hsh 13 (ty := .array .int) 45 in_X1 tyX1 tyX1_ok nmX1 ha rfl rfl (Nat.le_of_ble_eq_true rfl) rfl (by decide) (Or.inl q323) rfl (by decide +kernel) rfl rfl (Nat.le_of_ble_eq_true rfl) dX1_thinks_42 rfl (fun P15 _ => ?_)
  refine g_aloadn K 0 rfl rfl 46 dX1_thinks_45 rfl ?_
  refine g_aloadn K 1 rfl rfl 47 dX1_thinks_46 rfl ?_
  refine gx_get K hK hsh 22 (v := .int (I3 x1 22)) 50 in_X1 hx1 rfl (Nat.le_of_ble_eq_true rfl) rfl (by decide) (Or.inl q344) rfl dX1_thinks_47 rfl ?_
  refine gx_put K hK hsh 22 (ty := .int) 53 in_X1 tyX1 tyX1_ok nmX1 ha rfl rfl (Nat.le_of_ble_eq_true rfl) rfl (by decide) (Or.inl q344) rfl (by decide +kernel) rfl rfl (Nat.le_of_ble_eq_true rfl) dX1_thinks_50 rfl (fun I16 _ => ?_)
  exact gx_vret K hK hsh hr hlk dX1_thinks_53 rfl
/-- GingerRents$Borough.takes(LGingerRents$Borough;)V -/
def x1_takes (kd : Kd) (P : Ptr) (I : Mem) (a : Nat) (x1 : Nat) : Option (Ptr × Mem) :=
  (x1_thinks kd P I a x1).bind fun r1 =>
  jn (fun (j3 : Mem) =>
  (x2_takes j3 (a + 153) 9 (x1 + 153) 9).bind fun r6 =>
  (x2_takes r6 (a + 164) 8 (x1 + 164) 8).bind fun r8 =>
  (x2_takes r8 (a + 174) 5 (x1 + 174) 5).bind fun r10 =>
  (x2_takes r10 (a + 181) 8 (x1 + 181) 8).bind fun r12 =>
  (x2_takes r12 (a + 191) 16 (x1 + 191) 16).bind fun r14 =>
  (x2_takes r14 (a + 209) 6 (x1 + 209) 6).bind fun r16 =>
  (x2_takes r16 (a + 217) 12 (x1 + 217) 12).bind fun r18 =>
  (x2_takes r18 (a + 231) 8 (x1 + 231) 8).bind fun r20 =>
  some (r1.1, r20)) (fun k4 =>
  lp (fun again23 (j22 : Int32 × Mem) =>
  if (j22.2 a 21) ≤ j22.1 then
  k4 j22.2
  else
  lp (fun again26 (j25 : Int32 × Mem) =>
  if (nI 4) ≤ j25.1 then
  again23 ((j22.1 + (nI 1)), j25.2)
  else
  (ix 150 j22.1).bind fun i28 =>
  (ix 150 j22.1).bind fun i30 =>
  (rd j25.2 (x1 + 3 + i30) 4 j25.1).bind fun v32 =>
  (wr j25.2 (a + 3 + i28) 4 j25.1 v32).bind fun I33 =>
  again26 ((j25.1 + (nI 1)), I33)) fuel ((nI 0), j22.2)) fuel ((nI 0), r1.2))
theorem wd_x1_takes : yX1_takes.cls = RX1 ∧ yX1_takes.cls ≠ "java/lang/invoke/MethodHandle" ∧ yX1_takes.cls ≠ "java/lang/invoke/VarHandle" ∧ (parseMethodDescriptor yX1_takes.desc).map (fun d => d.parameters.length) = some 1 := by decide +kernel
set_option maxRecDepth 100000 in
theorem ctx_x1_takes {cs : Cs} {z : Nat} {kd : Kd} (P : Ptr) (I : Mem) (a : Nat) (x1 : Nat) (ha : kd a = (1, 0, 0)) (hx1 : kd x1 = (1, 0, 0)) : CtX cs z kd yX1_takes cX1_takes 4 none 3 65 [.ref a, .ref x1] (P, I) (fun r => (none, (r.1, r.2))) (x1_takes kd P I a x1) := by
  refine CtX.of RX1 (by decide) rfl (Nat.le_of_ble_eq_true rfl) ?_
  intro l D sz p e s m args below meth c hsh K hr hlk hK
  refine g_sub (ls' := [(0, .ref a), (1, .ref x1)]) [0, 1] rfl ?_
  unfold x1_takes
  refine g_aloadn K 0 rfl rfl 1 dX1_takes_0 rfl ?_
  refine g_aloadn K 1 rfl rfl 2 dX1_takes_1 rfl ?_
  refine gx_call K hK hsh 5 (ctx_x1_thinks P I a x1 ha hx1) (lw_V q1470 q1270 q1271 q152 q1272) wd_x1_thinks ha rfl (Nat.le_of_ble_eq_true rfl) rfl (by decide) rfl (Nat.le_of_ble_eq_true rfl) dX1_takes_2 rfl (fun r1 hr2 => ?_)
  refine g_iconst K (nI 0) ic_0 6 dX1_takes_5 rfl ?_
  refine g_istoren K [(0, .ref a), (1, .ref x1), (2, .int (nI 0))] [1, 2, 0] rfl (by decide) rfl 7 dX1_takes_6 rfl ?_
  refine g_jn (head := 50) (L := fun j3 => [(0, .ref a), (1, .ref x1)]) (sf := fun j3 => []) (mf := fun j3 => (r1.1, j3)) (fun j3 => ?_) (fun k4 h5 => ?_)
  · try dsimp only
    refine g_aloadn K 0 rfl rfl 51 dX1_takes_50 rfl ?_
    refine gx_get K hK hsh 2 (v := .ref (a + 153)) 54 in_X1 ha rfl (Nat.le_of_ble_eq_true rfl) rfl (by decide) (Or.inl q301) rfl dX1_takes_51 rfl ?_
    refine g_aloadn K 1 rfl rfl 55 dX1_takes_54 rfl ?_
    refine gx_get K hK hsh 2 (v := .ref (x1 + 153)) 58 in_X1 hx1 rfl (Nat.le_of_ble_eq_true rfl) rfl (by decide) (Or.inl q301) rfl dX1_takes_55 rfl ?_
    refine gx_call K hK hsh 61 (ctx_x2_takes r1.1 j3 (a + 153) 9 (x1 + 153) 9 (sh_1_pieces hsh ha) (sh_1_pieces hsh hx1)) (lw_V q1471 q1472 q1473 q153 q1474) wd_x2_takes (sh_1_pieces hsh ha) rfl (Nat.le_of_ble_eq_true rfl) rfl (by decide) rfl (Nat.le_of_ble_eq_true rfl) dX1_takes_58 rfl (fun r6 hr7 => ?_)
    refine g_aloadn K 0 rfl rfl 62 dX1_takes_61 rfl ?_
    refine gx_get K hK hsh 3 (v := .ref (a + 164)) 65 in_X1 ha rfl (Nat.le_of_ble_eq_true rfl) rfl (by decide) (Or.inl q303) rfl dX1_takes_62 rfl ?_
    refine g_aloadn K 1 rfl rfl 66 dX1_takes_65 rfl ?_
    refine gx_get K hK hsh 3 (v := .ref (x1 + 164)) 69 in_X1 hx1 rfl (Nat.le_of_ble_eq_true rfl) rfl (by decide) (Or.inl q303) rfl dX1_takes_66 rfl ?_
    refine gx_call K hK hsh 72 (ctx_x2_takes r1.1 r6 (a + 164) 8 (x1 + 164) 8 (sh_1_doughs hsh ha) (sh_1_doughs hsh hx1)) (lw_V q1471 q1472 q1473 q153 q1474) wd_x2_takes (sh_1_doughs hsh ha) rfl (Nat.le_of_ble_eq_true rfl) rfl (by decide) rfl (Nat.le_of_ble_eq_true rfl) dX1_takes_69 rfl (fun r8 hr9 => ?_)
    refine g_aloadn K 0 rfl rfl 73 dX1_takes_72 rfl ?_
    refine gx_get K hK hsh 4 (v := .ref (a + 174)) 76 in_X1 ha rfl (Nat.le_of_ble_eq_true rfl) rfl (by decide) (Or.inl q305) rfl dX1_takes_73 rfl ?_
    refine g_aloadn K 1 rfl rfl 77 dX1_takes_76 rfl ?_
    refine gx_get K hK hsh 4 (v := .ref (x1 + 174)) 80 in_X1 hx1 rfl (Nat.le_of_ble_eq_true rfl) rfl (by decide) (Or.inl q305) rfl dX1_takes_77 rfl ?_
    refine gx_call K hK hsh 83 (ctx_x2_takes r1.1 r8 (a + 174) 5 (x1 + 174) 5 (sh_1_marks hsh ha) (sh_1_marks hsh hx1)) (lw_V q1471 q1472 q1473 q153 q1474) wd_x2_takes (sh_1_marks hsh ha) rfl (Nat.le_of_ble_eq_true rfl) rfl (by decide) rfl (Nat.le_of_ble_eq_true rfl) dX1_takes_80 rfl (fun r10 hr11 => ?_)
    refine g_aloadn K 0 rfl rfl 84 dX1_takes_83 rfl ?_
    refine gx_get K hK hsh 5 (v := .ref (a + 181)) 87 in_X1 ha rfl (Nat.le_of_ble_eq_true rfl) rfl (by decide) (Or.inl q307) rfl dX1_takes_84 rfl ?_
    refine g_aloadn K 1 rfl rfl 88 dX1_takes_87 rfl ?_
    refine gx_get K hK hsh 5 (v := .ref (x1 + 181)) 91 in_X1 hx1 rfl (Nat.le_of_ble_eq_true rfl) rfl (by decide) (Or.inl q307) rfl dX1_takes_88 rfl ?_
    refine gx_call K hK hsh 94 (ctx_x2_takes r1.1 r10 (a + 181) 8 (x1 + 181) 8 (sh_1_bites hsh ha) (sh_1_bites hsh hx1)) (lw_V q1471 q1472 q1473 q153 q1474) wd_x2_takes (sh_1_bites hsh ha) rfl (Nat.le_of_ble_eq_true rfl) rfl (by decide) rfl (Nat.le_of_ble_eq_true rfl) dX1_takes_91 rfl (fun r12 hr13 => ?_)
    refine g_aloadn K 0 rfl rfl 95 dX1_takes_94 rfl ?_
    refine gx_get K hK hsh 6 (v := .ref (a + 191)) 98 in_X1 ha rfl (Nat.le_of_ble_eq_true rfl) rfl (by decide) (Or.inl q309) rfl dX1_takes_95 rfl ?_
    refine g_aloadn K 1 rfl rfl 99 dX1_takes_98 rfl ?_
    refine gx_get K hK hsh 6 (v := .ref (x1 + 191)) 102 in_X1 hx1 rfl (Nat.le_of_ble_eq_true rfl) rfl (by decide) (Or.inl q309) rfl dX1_takes_99 rfl ?_
    refine gx_call K hK hsh 105 (ctx_x2_takes r1.1 r12 (a + 191) 16 (x1 + 191) 16 (sh_1_crumbs hsh ha) (sh_1_crumbs hsh hx1)) (lw_V q1471 q1472 q1473 q153 q1474) wd_x2_takes (sh_1_crumbs hsh ha) rfl (Nat.le_of_ble_eq_true rfl) rfl (by decide) rfl (Nat.le_of_ble_eq_true rfl) dX1_takes_102 rfl (fun r14 hr15 => ?_)
    refine g_aloadn K 0 rfl rfl 106 dX1_takes_105 rfl ?_
    refine gx_get K hK hsh 7 (v := .ref (a + 209)) 109 in_X1 ha rfl (Nat.le_of_ble_eq_true rfl) rfl (by decide) (Or.inl q311) rfl dX1_takes_106 rfl ?_
    refine g_aloadn K 1 rfl rfl 110 dX1_takes_109 rfl ?_
    refine gx_get K hK hsh 7 (v := .ref (x1 + 209)) 113 in_X1 hx1 rfl (Nat.le_of_ble_eq_true rfl) rfl (by decide) (Or.inl q311) rfl dX1_takes_110 rfl ?_
    refine gx_call K hK hsh 116 (ctx_x2_takes r1.1 r14 (a + 209) 6 (x1 + 209) 6 (sh_1_loaves hsh ha) (sh_1_loaves hsh hx1)) (lw_V q1471 q1472 q1473 q153 q1474) wd_x2_takes (sh_1_loaves hsh ha) rfl (Nat.le_of_ble_eq_true rfl) rfl (by decide) rfl (Nat.le_of_ble_eq_true rfl) dX1_takes_113 rfl (fun r16 hr17 => ?_)
    refine g_aloadn K 0 rfl rfl 117 dX1_takes_116 rfl ?_
    refine gx_get K hK hsh 8 (v := .ref (a + 217)) 120 in_X1 ha rfl (Nat.le_of_ble_eq_true rfl) rfl (by decide) (Or.inl q313) rfl dX1_takes_117 rfl ?_
    refine g_aloadn K 1 rfl rfl 121 dX1_takes_120 rfl ?_
    refine gx_get K hK hsh 8 (v := .ref (x1 + 217)) 124 in_X1 hx1 rfl (Nat.le_of_ble_eq_true rfl) rfl (by decide) (Or.inl q313) rfl dX1_takes_121 rfl ?_
    refine gx_call K hK hsh 127 (ctx_x2_takes r1.1 r16 (a + 217) 12 (x1 + 217) 12 (sh_1_heirs hsh ha) (sh_1_heirs hsh hx1)) (lw_V q1471 q1472 q1473 q153 q1474) wd_x2_takes (sh_1_heirs hsh ha) rfl (Nat.le_of_ble_eq_true rfl) rfl (by decide) rfl (Nat.le_of_ble_eq_true rfl) dX1_takes_124 rfl (fun r18 hr19 => ?_)
    refine g_aloadn K 0 rfl rfl 128 dX1_takes_127 rfl ?_
    refine gx_get K hK hsh 9 (v := .ref (a + 231)) 131 in_X1 ha rfl (Nat.le_of_ble_eq_true rfl) rfl (by decide) (Or.inl q315) rfl dX1_takes_128 rfl ?_
    refine g_aloadn K 1 rfl rfl 132 dX1_takes_131 rfl ?_
    refine gx_get K hK hsh 9 (v := .ref (x1 + 231)) 135 in_X1 hx1 rfl (Nat.le_of_ble_eq_true rfl) rfl (by decide) (Or.inl q315) rfl dX1_takes_132 rfl ?_
    refine gx_call K hK hsh 138 (ctx_x2_takes r1.1 r18 (a + 231) 8 (x1 + 231) 8 (sh_1_members hsh ha) (sh_1_members hsh hx1)) (lw_V q1471 q1472 q1473 q153 q1474) wd_x2_takes (sh_1_members hsh ha) rfl (Nat.le_of_ble_eq_true rfl) rfl (by decide) rfl (Nat.le_of_ble_eq_true rfl) dX1_takes_135 rfl (fun r20 hr21 => ?_)
    exact gx_vret K hK hsh hr hlk dX1_takes_138 rfl
  · refine g_lp (head := 7) (L := fun j22 => [(0, .ref a), (1, .ref x1), (2, .int j22.1)]) (sf := fun j22 => []) (mf := fun j22 => (r1.1, j22.2)) (fun again23 h24 j22 => ?_) fuel ((nI 0), r1.2)
    try dsimp only
    refine g_iloadn K 2 rfl rfl 8 dX1_takes_7 rfl ?_
    refine g_aloadn K 0 rfl rfl 9 dX1_takes_8 rfl ?_
    refine gx_get K hK hsh 21 (v := .int (j22.2 a 21)) 12 in_X1 ha rfl (Nat.le_of_ble_eq_true rfl) rfl (by decide) (Or.inl q342) rfl dX1_takes_9 rfl ?_
    refine g_icmp_ge K 15 50 dX1_takes_12 rfl (by decide) (fun _ => ?_) (fun _ => ?_)
    · refine g_sub (ls' := [(0, .ref a), (1, .ref x1)]) [0, 1] rfl ?_
      exact h5 j22.2
    · refine g_iconst K (nI 0) ic_0 16 dX1_takes_15 rfl ?_
      refine g_istoren K [(0, .ref a), (1, .ref x1), (2, .int j22.1), (3, .int (nI 0))] [1, 2, 3, 0] rfl (by decide) rfl 17 dX1_takes_16 rfl ?_
      refine g_lp (head := 17) (L := fun j25 => [(0, .ref a), (1, .ref x1), (2, .int j22.1), (3, .int j25.1)]) (sf := fun j25 => []) (mf := fun j25 => (r1.1, j25.2)) (fun again26 h27 j25 => ?_) fuel ((nI 0), j22.2)
      try dsimp only
      refine g_iloadn K 3 rfl rfl 18 dX1_takes_17 rfl ?_
      refine g_iconst K (nI 4) ic_4 19 dX1_takes_18 rfl ?_
      refine g_icmp_ge K 22 44 dX1_takes_19 rfl (by decide) (fun _ => ?_) (fun _ => ?_)
      · refine g_iinc K (j22.1 + (nI 1)) 2 [(0, .ref a), (1, .ref x1), (2, .int (j22.1 + (nI 1)))] [1, 2, 0] rfl (by rw [ic_1]) (by decide) rfl 47 dX1_takes_44 rfl ?_
        refine g_goto K 7 dX1_takes_47 (by decide) ?_
        exact h24 ((j22.1 + (nI 1)), j25.2)
      · refine g_aloadn K 0 rfl rfl 23 dX1_takes_22 rfl ?_
        refine gx_get K hK hsh 1 (v := .ref (a + 2)) 26 in_X1 ha rfl (Nat.le_of_ble_eq_true rfl) rfl (by decide) (Or.inl q299) rfl dX1_takes_23 rfl ?_
        refine g_iloadn K 2 rfl rfl 27 dX1_takes_26 rfl ?_
        refine gx_aal K hK hsh 28 (sh_1_book hsh ha) dX1_takes_27 rfl (fun i28 hi29 => ?_)
        refine g_iloadn K 3 rfl rfl 29 dX1_takes_28 rfl ?_
        refine g_aloadn K 1 rfl rfl 30 dX1_takes_29 rfl ?_
        refine gx_get K hK hsh 1 (v := .ref (x1 + 2)) 33 in_X1 hx1 rfl (Nat.le_of_ble_eq_true rfl) rfl (by decide) (Or.inl q299) rfl dX1_takes_30 rfl ?_
        refine g_iloadn K 2 rfl rfl 34 dX1_takes_33 rfl ?_
        refine gx_aal K hK hsh 35 (sh_1_book hsh hx1) dX1_takes_34 rfl (fun i30 hi31 => ?_)
        refine g_iloadn K 3 rfl rfl 36 dX1_takes_35 rfl ?_
        refine gx_ald K hK hsh 37 (sh_22 hsh (sh_1_book hsh hx1) hi31) dX1_takes_36 rfl (fun v32 => ?_)
        refine gx_ast K hK hsh 38 (sh_22 hsh (sh_1_book hsh ha) hi29) dX1_takes_37 rfl (fun I33 => ?_)
        refine g_iinc K (j25.1 + (nI 1)) 3 [(0, .ref a), (1, .ref x1), (2, .int j22.1), (3, .int (j25.1 + (nI 1)))] [1, 2, 3, 0] rfl (by rw [ic_1]) (by decide) rfl 41 dX1_takes_38 rfl ?_
        refine g_goto K 17 dX1_takes_41 (by decide) ?_
        exact h27 ((j25.1 + (nI 1)), I33)
/-- GingerRents.word(I)V -/
def x0_word (I : Mem) (z : Nat) (x1 : Int32) : Option (Mem) :=
  lp (fun again2 (j1 : Int32 × Mem) =>
  if j1.1 < 0 then
  some j1.2
  else
  (wr j1.2 (z + 1) 400 (j1.2 z 1) (vp_nar .byte (x1 >>> (j1.1 &&& 31)).toInt8.toInt32)).bind fun I4 =>
  nm (up2 I4 z 1 ((I4 z 1) + (nI 1))) fun I5 =>
  again2 ((j1.1 + (-8 : Int32)), I5)) fuel ((nI 24), I)
theorem wd_x0_word : yX0_word.cls = RX0 ∧ yX0_word.cls ≠ "java/lang/invoke/MethodHandle" ∧ yX0_word.cls ≠ "java/lang/invoke/VarHandle" ∧ (parseMethodDescriptor yX0_word.desc).map (fun d => d.parameters.length) = some 1 := by decide +kernel
set_option maxRecDepth 100000 in
theorem ctx_x0_word {cs : Cs} {z : Nat} {kd : Kd} (P : Ptr) (I : Mem) (x1 : Int32) (hz : kd z = (0, 0, 0)) : CtX cs z kd yX0_word cX0_word 3 none 0 0 [.ref z, .int x1] (P, I) (fun r => (none, (P, r))) (x0_word I z x1) := by
  refine CtX.of RX0 (by decide) rfl (Nat.le_of_ble_eq_true rfl) ?_
  intro l D sz p e s m args below meth c hsh K hr hlk hK
  refine g_sub (ls' := [(0, .ref z), (1, .int x1)]) [0, 1] rfl ?_
  unfold x0_word
  refine g_bipush K (nI 24) bp_24 2 dX0_word_0 rfl ?_
  refine g_istoren K [(0, .ref z), (1, .int x1), (2, .int (nI 24))] [1, 2, 0] rfl (by decide) rfl 3 dX0_word_2 rfl ?_
  refine g_lp (head := 3) (L := fun j1 => [(0, .ref z), (1, .int x1), (2, .int j1.1)]) (sf := fun j1 => []) (mf := fun j1 => (P, j1.2)) (fun again2 h3 j1 => ?_) fuel ((nI 24), I)
  try dsimp only
  refine g_iloadn K 2 rfl rfl 4 dX0_word_3 rfl ?_
  refine g_if_lt K 7 36 dX0_word_4 rfl (by decide) (fun _ => ?_) (fun _ => ?_)
  · exact gx_vret K hK hsh hr hlk dX0_word_36 rfl
  · refine g_aloadn K 0 rfl rfl 8 dX0_word_7 rfl ?_
    refine gx_get K hK hsh 0 (v := .ref (z + 1)) 11 in_X0 hz rfl (Nat.le_of_ble_eq_true rfl) rfl (by decide) (Or.inl q405) rfl dX0_word_8 rfl ?_
    refine g_aloadn K 0 rfl rfl 12 dX0_word_11 rfl ?_
    refine gx_get K hK hsh 1 (v := .int (j1.2 z 1)) 15 in_X0 hz rfl (Nat.le_of_ble_eq_true rfl) rfl (by decide) (Or.inl q408) rfl dX0_word_12 rfl ?_
    refine g_iloadn K 1 rfl rfl 16 dX0_word_15 rfl ?_
    refine g_iloadn K 2 rfl rfl 17 dX0_word_16 rfl ?_
    refine g_ishr K 18 dX0_word_17 rfl ?_
    refine g_i2b K 19 dX0_word_18 rfl ?_
    refine gx_bst K hK hsh 20 (sh_0_tape hsh hz) dX0_word_19 rfl (fun I4 => ?_)
    refine g_aloadn K 0 rfl rfl 21 dX0_word_20 rfl ?_
    refine g_dup K rfl 22 dX0_word_21 rfl ?_
    refine gx_get K hK hsh 1 (v := .int (I4 z 1)) 25 in_X0 hz rfl (Nat.le_of_ble_eq_true rfl) rfl (by decide) (Or.inl q408) rfl dX0_word_22 rfl ?_
    refine g_iconst K (nI 1) ic_1 26 dX0_word_25 rfl ?_
    refine g_iadd K 27 dX0_word_26 rfl ?_
    refine gx_put K hK hsh 1 (ty := .int) 30 in_X0 tyX0 tyX0_ok nmX0 hz rfl rfl (Nat.le_of_ble_eq_true rfl) rfl (by decide) (Or.inl q408) rfl (by decide +kernel) rfl rfl (Nat.le_of_ble_eq_true rfl) dX0_word_27 rfl (fun I5 _ => ?_)
    refine g_iinc K (j1.1 + (-8 : Int32)) 2 [(0, .ref z), (1, .int x1), (2, .int (j1.1 + (-8 : Int32)))] [1, 2, 0] rfl (by rw [ic_m8]) (by decide) rfl 33 dX0_word_30 rfl ?_
    refine g_goto K 3 dX0_word_33 (by decide) ?_
    exact h3 ((j1.1 + (-8 : Int32)), I5)
/-- GingerRents.feed(IIIII)I -/
def x0_feed (I : Mem) (z : Nat) (x1 : Int32) (x2 : Int32) (x3 : Int32) (x4 : Int32) (x5 : Int32) : Option (Int32 × Mem) :=
  if ((I z 1) + (nI 20)) ≤ (nI 400) then
  (x0_word I z x1).bind fun r1 =>
  (x0_word r1 z x2).bind fun r3 =>
  (x0_word r3 z x3).bind fun r5 =>
  (x0_word r5 z x4).bind fun r7 =>
  (x0_word r7 z x5).bind fun r9 =>
  some ((r9 z 1), r9)
  else
  some ((-1 : Int32), I)
theorem wd_x0_feed : yX0_feed.cls = RX0 ∧ yX0_feed.cls ≠ "java/lang/invoke/MethodHandle" ∧ yX0_feed.cls ≠ "java/lang/invoke/VarHandle" ∧ (parseMethodDescriptor yX0_feed.desc).map (fun d => d.parameters.length) = some 5 := by decide +kernel
set_option maxRecDepth 100000 in
theorem ctx_x0_feed {cs : Cs} {z : Nat} {kd : Kd} (P : Ptr) (I : Mem) (x1 : Int32) (x2 : Int32) (x3 : Int32) (x4 : Int32) (x5 : Int32) (hz : kd z = (0, 0, 0)) : CtX cs z kd yX0_feed cX0_feed 6 (some .int) 1 22 [.ref z, .int x1, .int x2, .int x3, .int x4, .int x5] (P, I) (fun r => (some (.int r.1), (P, r.2))) (x0_feed I z x1 x2 x3 x4 x5) := by
  refine CtX.of RX0 (by decide) rfl (Nat.le_of_ble_eq_true rfl) ?_
  intro l D sz p e s m args below meth c hsh K hr hlk hK
  refine g_sub (ls' := [(0, .ref z), (1, .int x1), (2, .int x2), (3, .int x3), (4, .int x4), (5, .int x5)]) [0, 1, 2, 3, 4, 5] rfl ?_
  unfold x0_feed
  refine g_aloadn K 0 rfl rfl 1 dX0_feed_0 rfl ?_
  refine gx_get K hK hsh 1 (v := .int (I z 1)) 4 in_X0 hz rfl (Nat.le_of_ble_eq_true rfl) rfl (by decide) (Or.inl q408) rfl dX0_feed_1 rfl ?_
  refine g_bipush K (nI 20) bp_20 6 dX0_feed_4 rfl ?_
  refine g_iadd K 7 dX0_feed_6 rfl ?_
  refine g_sipush K (nI 400) sp_400 10 dX0_feed_7 rfl ?_
  refine g_icmp_le K 13 15 dX0_feed_10 rfl (by decide) (fun _ => ?_) (fun _ => ?_)
  · refine g_aloadn K 0 rfl rfl 16 dX0_feed_15 rfl ?_
    refine g_iloadn K 1 rfl rfl 17 dX0_feed_16 rfl ?_
    refine gx_call K hK hsh 20 (ctx_x0_word P I x1 hz) (lw_V q470 q472 qs0 q151 q473) wd_x0_word hz rfl (Nat.le_of_ble_eq_true rfl) rfl (by decide) rfl (Nat.le_of_ble_eq_true rfl) dX0_feed_17 rfl (fun r1 hr2 => ?_)
    refine g_aloadn K 0 rfl rfl 21 dX0_feed_20 rfl ?_
    refine g_iloadn K 2 rfl rfl 22 dX0_feed_21 rfl ?_
    refine gx_call K hK hsh 25 (ctx_x0_word P r1 x2 hz) (lw_V q470 q472 qs0 q151 q473) wd_x0_word hz rfl (Nat.le_of_ble_eq_true rfl) rfl (by decide) rfl (Nat.le_of_ble_eq_true rfl) dX0_feed_22 rfl (fun r3 hr4 => ?_)
    refine g_aloadn K 0 rfl rfl 26 dX0_feed_25 rfl ?_
    refine g_iloadn K 3 rfl rfl 27 dX0_feed_26 rfl ?_
    refine gx_call K hK hsh 30 (ctx_x0_word P r3 x3 hz) (lw_V q470 q472 qs0 q151 q473) wd_x0_word hz rfl (Nat.le_of_ble_eq_true rfl) rfl (by decide) rfl (Nat.le_of_ble_eq_true rfl) dX0_feed_27 rfl (fun r5 hr6 => ?_)
    refine g_aloadn K 0 rfl rfl 31 dX0_feed_30 rfl ?_
    refine g_iload K 4 rfl 33 dX0_feed_31 rfl ?_
    refine gx_call K hK hsh 36 (ctx_x0_word P r5 x4 hz) (lw_V q470 q472 qs0 q151 q473) wd_x0_word hz rfl (Nat.le_of_ble_eq_true rfl) rfl (by decide) rfl (Nat.le_of_ble_eq_true rfl) dX0_feed_33 rfl (fun r7 hr8 => ?_)
    refine g_aloadn K 0 rfl rfl 37 dX0_feed_36 rfl ?_
    refine g_iload K 5 rfl 39 dX0_feed_37 rfl ?_
    refine gx_call K hK hsh 42 (ctx_x0_word P r7 x5 hz) (lw_V q470 q472 qs0 q151 q473) wd_x0_word hz rfl (Nat.le_of_ble_eq_true rfl) rfl (by decide) rfl (Nat.le_of_ble_eq_true rfl) dX0_feed_39 rfl (fun r9 hr10 => ?_)
    refine g_aloadn K 0 rfl rfl 43 dX0_feed_42 rfl ?_
    refine gx_get K hK hsh 1 (v := .int (r9 z 1)) 46 in_X0 hz rfl (Nat.le_of_ble_eq_true rfl) rfl (by decide) (Or.inl q408) rfl dX0_feed_43 rfl ?_
    exact gx_iret K hK hsh hr hlk dX0_feed_46 rfl
  · refine g_iconst K (-1 : Int32) ic_m1 14 dX0_feed_13 rfl ?_
    exact gx_iret K hK hsh hr hlk dX0_feed_14 rfl
/-- GingerRents.isIn(III)Z -/
def x0_isIn (x1 : Int32) (x2 : Int32) (x3 : Int32) : Option Bool :=
  if x1 < x2 then
  some false
  else
  if x3 < x1 then
  some false
  else
  some true
theorem wds_x0_isIn : yX0_isIn.cls ≠ "java/lang/invoke/MethodHandle" ∧ yX0_isIn.cls ≠ "java/lang/invoke/VarHandle" ∧ (parseMethodDescriptor yX0_isIn.desc).map (fun d => d.parameters.length) = some 3 := by decide +kernel
set_option maxRecDepth 100000 in
theorem cts_x0_isIn (x1 : Int32) (x2 : Int32) (x3 : Int32) : CtS yX0_isIn cX0_isIn 3 (some .boolean) 0 0 [.int x1, .int x2, .int x3] (fun r => some (.int (bI r))) (x0_isIn x1 x2 x3) := by
  refine CtS.of RX0 (by decide) rfl (Nat.le_of_ble_eq_true rfl) ?_
  intro l p e s m args below meth c K hr hlk
  refine g_sub (ls' := [(0, .int x1), (1, .int x2), (2, .int x3)]) [0, 1, 2] rfl ?_
  unfold x0_isIn
  refine g_iloadn K 0 rfl rfl 1 dX0_isIn_0 rfl ?_
  refine g_iloadn K 1 rfl rfl 2 dX0_isIn_1 rfl ?_
  refine g_icmp_lt K 5 14 dX0_isIn_2 rfl (by decide) (fun _ => ?_) (fun _ => ?_)
  · refine g_iconst K (nI 0) ic_0 15 dX0_isIn_14 rfl ?_
    exact gs_zret K hr hlk (b := false) dX0_isIn_15 rfl rfl
  · refine g_iloadn K 0 rfl rfl 6 dX0_isIn_5 rfl ?_
    refine g_iloadn K 2 rfl rfl 7 dX0_isIn_6 rfl ?_
    refine g_icmp_gt K 10 14 dX0_isIn_7 rfl (by decide) (fun _ => ?_) (fun _ => ?_)
    · refine g_iconst K (nI 0) ic_0 15 dX0_isIn_14 rfl ?_
      exact gs_zret K hr hlk (b := false) dX0_isIn_15 rfl rfl
    · refine g_iconst K (nI 1) ic_1 11 dX0_isIn_10 rfl ?_
      refine g_goto K 15 dX0_isIn_11 (by decide) ?_
      exact gs_zret K hr hlk (b := true) dX0_isIn_15 rfl rfl
/-- GingerRents.end(I)Z -/
def x0_end (I : Mem) (z : Nat) (x1 : Int32) : Option (Bool × Mem) :=
  (x0_isIn x1 (nI 0) (I z 1)).bind fun r1 =>
  if (bI r1) = 0 then
  some (false, I)
  else
  nm (up2 I z 1 x1) fun I2 =>
  some (true, I2)
theorem wd_x0_end : yX0_end.cls = RX0 ∧ yX0_end.cls ≠ "java/lang/invoke/MethodHandle" ∧ yX0_end.cls ≠ "java/lang/invoke/VarHandle" ∧ (parseMethodDescriptor yX0_end.desc).map (fun d => d.parameters.length) = some 1 := by decide +kernel
set_option maxRecDepth 100000 in
theorem ctx_x0_end {cs : Cs} {z : Nat} {kd : Kd} (P : Ptr) (I : Mem) (x1 : Int32) (hz : kd z = (0, 0, 0)) : CtX cs z kd yX0_end cX0_end 2 (some .boolean) 1 22 [.ref z, .int x1] (P, I) (fun r => (some (.int (bI r.1)), (P, r.2))) (x0_end I z x1) := by
  refine CtX.of RX0 (by decide) rfl (Nat.le_of_ble_eq_true rfl) ?_
  intro l D sz p e s m args below meth c hsh K hr hlk hK
  refine g_sub (ls' := [(0, .ref z), (1, .int x1)]) [0, 1] rfl ?_
  unfold x0_end
  refine g_iloadn K 1 rfl rfl 1 dX0_end_0 rfl ?_
  refine g_iconst K (nI 0) ic_0 2 dX0_end_1 rfl ?_
  refine g_aloadn K 0 rfl rfl 3 dX0_end_2 rfl ?_
  refine gx_get K hK hsh 1 (v := .int (I z 1)) 6 in_X0 hz rfl (Nat.le_of_ble_eq_true rfl) rfl (by decide) (Or.inl q408) rfl dX0_end_3 rfl ?_
  refine g_callS K 9 (cts_x0_isIn x1 (nI 0) (I z 1)) (lw_S q478 q479 q151 q480) wds_x0_isIn (by decide) rfl (Nat.le_of_ble_eq_true rfl) dX0_end_6 rfl (fun r1 _ => ?_)
  refine g_if_ne K 12 14 dX0_end_9 rfl (by decide) (fun _ => ?_) (fun _ => ?_)
  · refine g_iconst K (nI 0) ic_0 13 dX0_end_12 rfl ?_
    exact gx_zret K hK hsh hr hlk (b := false) dX0_end_13 rfl rfl
  · refine g_aloadn K 0 rfl rfl 15 dX0_end_14 rfl ?_
    refine g_iloadn K 1 rfl rfl 16 dX0_end_15 rfl ?_
    refine gx_put K hK hsh 1 (ty := .int) 19 in_X0 tyX0 tyX0_ok nmX0 hz rfl rfl (Nat.le_of_ble_eq_true rfl) rfl (by decide) (Or.inl q408) rfl (by decide +kernel) rfl rfl (Nat.le_of_ble_eq_true rfl) dX0_end_16 rfl (fun I2 _ => ?_)
    refine g_iconst K (nI 1) ic_1 20 dX0_end_19 rfl ?_
    exact gx_zret K hK hsh hr hlk (b := true) dX0_end_20 rfl rfl
/-- GingerRents.forgets()Z -/
def x0_forgets (I : Mem) (z : Nat) : Option (Bool × Mem) :=
  nm (up2 I z 8 (nI 0)) fun I1 =>
  some (true, I1)
theorem wd_x0_forgets : yX0_forgets.cls = RX0 ∧ yX0_forgets.cls ≠ "java/lang/invoke/MethodHandle" ∧ yX0_forgets.cls ≠ "java/lang/invoke/VarHandle" ∧ (parseMethodDescriptor yX0_forgets.desc).map (fun d => d.parameters.length) = some 0 := by decide +kernel
set_option maxRecDepth 100000 in
theorem ctx_x0_forgets {cs : Cs} {z : Nat} {kd : Kd} (P : Ptr) (I : Mem) (hz : kd z = (0, 0, 0)) : CtX cs z kd yX0_forgets cX0_forgets 1 (some .boolean) 0 0 [.ref z] (P, I) (fun r => (some (.int (bI r.1)), (P, r.2))) (x0_forgets I z) := by
  refine CtX.of RX0 (by decide) rfl (Nat.le_of_ble_eq_true rfl) ?_
  intro l D sz p e s m args below meth c hsh K hr hlk hK
  refine g_sub (ls' := [(0, .ref z)]) [0] rfl ?_
  unfold x0_forgets
  refine g_aloadn K 0 rfl rfl 1 dX0_forgets_0 rfl ?_
  refine g_iconst K (nI 0) ic_0 2 dX0_forgets_1 rfl ?_
  refine gx_put K hK hsh 8 (ty := .int) 5 in_X0 tyX0 tyX0_ok nmX0 hz rfl rfl (Nat.le_of_ble_eq_true rfl) rfl (by decide) (Or.inl q416) rfl (by decide +kernel) rfl rfl (Nat.le_of_ble_eq_true rfl) dX0_forgets_2 rfl (fun I1 _ => ?_)
  refine g_iconst K (nI 1) ic_1 6 dX0_forgets_5 rfl ?_
  exact gx_zret K hK hsh hr hlk (b := true) dX0_forgets_6 rfl rfl
/-- GingerRents.fault(I)I -/
def x0_fault (I : Mem) (z : Nat) (x1 : Int32) : Option (Int32) :=
  if x1 = 0 then
  some (I z 2)
  else
  if x1 = (nI 1) then
  some (I z 3)
  else
  some (-1 : Int32)
theorem wd_x0_fault : yX0_fault.cls = RX0 ∧ yX0_fault.cls ≠ "java/lang/invoke/MethodHandle" ∧ yX0_fault.cls ≠ "java/lang/invoke/VarHandle" ∧ (parseMethodDescriptor yX0_fault.desc).map (fun d => d.parameters.length) = some 1 := by decide +kernel
set_option maxRecDepth 100000 in
theorem ctx_x0_fault {cs : Cs} {z : Nat} {kd : Kd} (P : Ptr) (I : Mem) (x1 : Int32) (hz : kd z = (0, 0, 0)) : CtX cs z kd yX0_fault cX0_fault 2 (some .int) 0 0 [.ref z, .int x1] (P, I) (fun r => (some (.int r), (P, I))) (x0_fault I z x1) := by
  refine CtX.of RX0 (by decide) rfl (Nat.le_of_ble_eq_true rfl) ?_
  intro l D sz p e s m args below meth c hsh K hr hlk hK
  refine g_sub (ls' := [(0, .ref z), (1, .int x1)]) [0, 1] rfl ?_
  unfold x0_fault
  refine g_iloadn K 1 rfl rfl 1 dX0_fault_0 rfl ?_
  refine g_if_ne K 4 11 dX0_fault_1 rfl (by decide) (fun _ => ?_) (fun _ => ?_)
  · refine g_aloadn K 0 rfl rfl 5 dX0_fault_4 rfl ?_
    refine gx_get K hK hsh 2 (v := .int (I z 2)) 8 in_X0 hz rfl (Nat.le_of_ble_eq_true rfl) rfl (by decide) (Or.inl q409) rfl dX0_fault_5 rfl ?_
    refine g_goto K 24 dX0_fault_8 (by decide) ?_
    exact gx_iret K hK hsh hr hlk dX0_fault_24 rfl
  · refine g_iloadn K 1 rfl rfl 12 dX0_fault_11 rfl ?_
    refine g_iconst K (nI 1) ic_1 13 dX0_fault_12 rfl ?_
    refine g_icmp_ne K 16 23 dX0_fault_13 rfl (by decide) (fun _ => ?_) (fun _ => ?_)
    · refine g_aloadn K 0 rfl rfl 17 dX0_fault_16 rfl ?_
      refine gx_get K hK hsh 3 (v := .int (I z 3)) 20 in_X0 hz rfl (Nat.le_of_ble_eq_true rfl) rfl (by decide) (Or.inl q410) rfl dX0_fault_17 rfl ?_
      refine g_goto K 24 dX0_fault_20 (by decide) ?_
      exact gx_iret K hK hsh hr hlk dX0_fault_24 rfl
    · refine g_iconst K (-1 : Int32) ic_m1 24 dX0_fault_23 rfl ?_
      exact gx_iret K hK hsh hr hlk dX0_fault_24 rfl
/-- GingerRents.undo()Z -/
def x0_undo (kd : Kd) (P : Ptr) (I : Mem) (z : Nat) : Option (Bool × Mem) :=
  if (I z 8) = 0 then
  some (false, I)
  else
  nm (up2 I z 8 ((I z 8) - (nI 1))) fun I1 =>
  (pix kd P (z + 809) 6 (I1 z 8) (1, 0, 0)).bind fun b2 =>
  (x1_moves I1 (z + 2) b2).bind fun r4 =>
  some (true, r4)
theorem wd_x0_undo : yX0_undo.cls = RX0 ∧ yX0_undo.cls ≠ "java/lang/invoke/MethodHandle" ∧ yX0_undo.cls ≠ "java/lang/invoke/VarHandle" ∧ (parseMethodDescriptor yX0_undo.desc).map (fun d => d.parameters.length) = some 0 := by decide +kernel
set_option maxRecDepth 100000 in
theorem ctx_x0_undo {cs : Cs} {z : Nat} {kd : Kd} (P : Ptr) (I : Mem) (hz : kd z = (0, 0, 0)) : CtX cs z kd yX0_undo cX0_undo 1 (some .boolean) 2 44 [.ref z] (P, I) (fun r => (some (.int (bI r.1)), (P, r.2))) (x0_undo kd P I z) := by
  refine CtX.of RX0 (by decide) rfl (Nat.le_of_ble_eq_true rfl) ?_
  intro l D sz p e s m args below meth c hsh K hr hlk hK
  refine g_sub (ls' := [(0, .ref z)]) [0] rfl ?_
  unfold x0_undo
  refine g_aloadn K 0 rfl rfl 1 dX0_undo_0 rfl ?_
  refine gx_get K hK hsh 8 (v := .int (I z 8)) 4 in_X0 hz rfl (Nat.le_of_ble_eq_true rfl) rfl (by decide) (Or.inl q416) rfl dX0_undo_1 rfl ?_
  refine g_if_ne K 7 9 dX0_undo_4 rfl (by decide) (fun _ => ?_) (fun _ => ?_)
  · refine g_iconst K (nI 0) ic_0 8 dX0_undo_7 rfl ?_
    exact gx_zret K hK hsh hr hlk (b := false) dX0_undo_8 rfl rfl
  · refine g_aloadn K 0 rfl rfl 10 dX0_undo_9 rfl ?_
    refine g_dup K rfl 11 dX0_undo_10 rfl ?_
    refine gx_get K hK hsh 8 (v := .int (I z 8)) 14 in_X0 hz rfl (Nat.le_of_ble_eq_true rfl) rfl (by decide) (Or.inl q416) rfl dX0_undo_11 rfl ?_
    refine g_iconst K (nI 1) ic_1 15 dX0_undo_14 rfl ?_
    refine g_isub K 16 dX0_undo_15 rfl ?_
    refine gx_put K hK hsh 8 (ty := .int) 19 in_X0 tyX0 tyX0_ok nmX0 hz rfl rfl (Nat.le_of_ble_eq_true rfl) rfl (by decide) (Or.inl q416) rfl (by decide +kernel) rfl rfl (Nat.le_of_ble_eq_true rfl) dX0_undo_16 rfl (fun I1 _ => ?_)
    refine g_aloadn K 0 rfl rfl 20 dX0_undo_19 rfl ?_
    refine gx_get K hK hsh 4 (v := .ref (z + 2)) 23 in_X0 hz rfl (Nat.le_of_ble_eq_true rfl) rfl (by decide) (Or.inl q411) rfl dX0_undo_20 rfl ?_
    refine g_aloadn K 0 rfl rfl 24 dX0_undo_23 rfl ?_
    refine gx_get K hK hsh 7 (v := .ref (z + 809)) 27 in_X0 hz rfl (Nat.le_of_ble_eq_true rfl) rfl (by decide) (Or.inl q415) rfl dX0_undo_24 rfl ?_
    refine g_aloadn K 0 rfl rfl 28 dX0_undo_27 rfl ?_
    refine gx_get K hK hsh 8 (v := .int (I1 z 8)) 31 in_X0 hz rfl (Nat.le_of_ble_eq_true rfl) rfl (by decide) (Or.inl q416) rfl dX0_undo_28 rfl ?_
    refine gx_pal K hK hsh (1, 0, 0) 32 (sh_0_back hsh hz) dX0_undo_31 rfl (fun b2 hb3 => ?_)
    refine gx_call K hK hsh 35 (ctx_x1_moves P I1 (z + 2) b2 (sh_0_borough hsh hz) hb3) (lw_V q988 q989 q990 q152 q991) wd_x1_moves (sh_0_borough hsh hz) rfl (Nat.le_of_ble_eq_true rfl) rfl (by decide) rfl (Nat.le_of_ble_eq_true rfl) dX0_undo_32 rfl (fun r4 hr5 => ?_)
    refine g_iconst K (nI 1) ic_1 36 dX0_undo_35 rfl ?_
    exact gx_zret K hK hsh hr hlk (b := true) dX0_undo_36 rfl rfl
/-- GingerRents.state(I)I -/
def x0_state (I : Mem) (z : Nat) (x1 : Int32) : Option (Int32 × Mem) :=
  nm (up2 I (z + 2) 20 x1) fun I1 =>
  (x0_forgets I1 z).bind fun r2 =>
  some ((I (z + 2) 20), r2.2)
theorem wd_x0_state : yX0_state.cls = RX0 ∧ yX0_state.cls ≠ "java/lang/invoke/MethodHandle" ∧ yX0_state.cls ≠ "java/lang/invoke/VarHandle" ∧ (parseMethodDescriptor yX0_state.desc).map (fun d => d.parameters.length) = some 1 := by decide +kernel
set_option maxRecDepth 100000 in
theorem ctx_x0_state {cs : Cs} {z : Nat} {kd : Kd} (P : Ptr) (I : Mem) (x1 : Int32) (hz : kd z = (0, 0, 0)) : CtX cs z kd yX0_state cX0_state 3 (some .int) 1 20 [.ref z, .int x1] (P, I) (fun r => (some (.int r.1), (P, r.2))) (x0_state I z x1) := by
  refine CtX.of RX0 (by decide) rfl (Nat.le_of_ble_eq_true rfl) ?_
  intro l D sz p e s m args below meth c hsh K hr hlk hK
  refine g_sub (ls' := [(0, .ref z), (1, .int x1)]) [0, 1] rfl ?_
  unfold x0_state
  refine g_aloadn K 0 rfl rfl 1 dX0_state_0 rfl ?_
  refine gx_get K hK hsh 4 (v := .ref (z + 2)) 4 in_X0 hz rfl (Nat.le_of_ble_eq_true rfl) rfl (by decide) (Or.inl q411) rfl dX0_state_1 rfl ?_
  refine gx_get K hK hsh 20 (v := .int (I (z + 2) 20)) 7 in_X1 (sh_0_borough hsh hz) rfl (Nat.le_of_ble_eq_true rfl) rfl (by decide) (Or.inr (nf_q341 hK.2)) rfl dX0_state_4 rfl ?_
  refine g_istoren K [(0, .ref z), (1, .int x1), (2, .int (I (z + 2) 20))] [1, 2, 0] rfl (by decide) rfl 8 dX0_state_7 rfl ?_
  refine g_aloadn K 0 rfl rfl 9 dX0_state_8 rfl ?_
  refine gx_get K hK hsh 4 (v := .ref (z + 2)) 12 in_X0 hz rfl (Nat.le_of_ble_eq_true rfl) rfl (by decide) (Or.inl q411) rfl dX0_state_9 rfl ?_
  refine g_iloadn K 1 rfl rfl 13 dX0_state_12 rfl ?_
  refine gx_put K hK hsh 20 (ty := .int) 16 in_X1 tyX1 tyX1_ok nmX1 (sh_0_borough hsh hz) rfl rfl (Nat.le_of_ble_eq_true rfl) rfl (by decide) (Or.inr (nf_q341 hK.2)) rfl (by decide +kernel) rfl rfl (Nat.le_of_ble_eq_true rfl) dX0_state_13 rfl (fun I1 _ => ?_)
  refine g_aloadn K 0 rfl rfl 17 dX0_state_16 rfl ?_
  refine gx_call K hK hsh 20 (ctx_x0_forgets P I1 hz) (lw_V q972 q974 qs28 q151 q975) wd_x0_forgets hz rfl (Nat.le_of_ble_eq_true rfl) rfl (by decide) rfl (Nat.le_of_ble_eq_true rfl) dX0_state_17 rfl (fun r2 hr3 => ?_)
  refine g_pop K rfl 21 dX0_state_20 rfl ?_
  refine g_iloadn K 2 rfl rfl 22 dX0_state_21 rfl ?_
  exact gx_iret K hK hsh hr hlk dX0_state_22 rfl
/-- GingerRents.at(I)LGingerRents$House; -/
def x0_at (I : Mem) (z : Nat) (x1 : Int32) : Option (Nat) :=
  (ix 12 x1).bind fun i1 =>
  some (z + 247 + 2 * i1)
theorem wd_x0_at : yX0_at.cls = RX0 ∧ yX0_at.cls ≠ "java/lang/invoke/MethodHandle" ∧ yX0_at.cls ≠ "java/lang/invoke/VarHandle" ∧ (parseMethodDescriptor yX0_at.desc).map (fun d => d.parameters.length) = some 1 := by decide +kernel
set_option maxRecDepth 100000 in
theorem ctx_x0_at {cs : Cs} {z : Nat} {kd : Kd} (P : Ptr) (I : Mem) (x1 : Int32) (hz : kd z = (0, 0, 0)) : CtX cs z kd yX0_at cX0_at 2 (some (.object "GingerRents$House")) 0 0 [.ref z, .int x1] (P, I) (fun r => (some (.ref r), (P, I))) (x0_at I z x1) := by
  refine CtX.of RX0 (by decide) rfl (Nat.le_of_ble_eq_true rfl) ?_
  intro l D sz p e s m args below meth c hsh K hr hlk hK
  refine g_sub (ls' := [(0, .ref z), (1, .int x1)]) [0, 1] rfl ?_
  unfold x0_at
  refine g_aloadn K 0 rfl rfl 1 dX0_at_0 rfl ?_
  refine gx_get K hK hsh 4 (v := .ref (z + 2)) 4 in_X0 hz rfl (Nat.le_of_ble_eq_true rfl) rfl (by decide) (Or.inl q411) rfl dX0_at_1 rfl ?_
  refine gx_get K hK hsh 0 (v := .ref (z + 3)) 7 in_X1 (sh_0_borough hsh hz) rfl (Nat.le_of_ble_eq_true rfl) rfl (by decide) (Or.inr (nf_q298 hK.2)) rfl dX0_at_4 rfl ?_
  refine g_iloadn K 1 rfl rfl 8 dX0_at_7 rfl ?_
  refine gx_hal K hK hsh 9 (sh_1_house hsh (sh_0_borough hsh hz)) dX0_at_8 rfl (fun i1 hi2 => ?_)
  exact gx_aret K hK hsh hr hlk dX0_at_9 rfl
theorem at_kd {z : Nat} {kd : Kd} (hsh : Shp z kd) (hz : kd z = (0, 0, 0)) {I : Mem} {x : Int32} {r : Nat} (h : x0_at I z x = some r) : kd r = (3, 0, 0) := by
  unfold x0_at at h
  obtain ⟨j, hj, hr⟩ := Option.bind_eq_some_iff.mp h
  cases hr
  exact sh_23 hsh (sh_1_house hsh (sh_0_borough hsh hz)) (ix_some hj).2.2
/-- GingerRents.house(III)I -/
def x0_house (I : Mem) (z : Nat) (x1 : Int32) (x2 : Int32) (x3 : Int32) : Option (Int32 × Mem) :=
  (x0_isIn x1 (nI 0) (nI 99)).bind fun r1 =>
  if (bI r1) = 0 then
  some ((-1 : Int32), I)
  else
  (x0_isIn x2 (nI 0) (nI 9)).bind fun r2 =>
  if (bI r2) = 0 then
  some ((-1 : Int32), I)
  else
  (x0_isIn x3 (nI 0) (nI 9)).bind fun r3 =>
  if (bI r3) = 0 then
  some ((-1 : Int32), I)
  else
  if (I (z + 2) 14) = (nI 12) then
  some ((-1 : Int32), I)
  else
  (x0_at I z (I (z + 2) 14)).bind fun r4 =>
  (x3_begins I r4 x1 x2 x3).bind fun r6 =>
  nm (up2 r6 (z + 2) 14 ((r6 (z + 2) 14) + (nI 1))) fun I8 =>
  (x0_forgets I8 z).bind fun r9 =>
  some (((r9.2 (z + 2) 14) - (nI 1)), r9.2)
theorem wd_x0_house : yX0_house.cls = RX0 ∧ yX0_house.cls ≠ "java/lang/invoke/MethodHandle" ∧ yX0_house.cls ≠ "java/lang/invoke/VarHandle" ∧ (parseMethodDescriptor yX0_house.desc).map (fun d => d.parameters.length) = some 3 := by decide +kernel
set_option maxRecDepth 100000 in
theorem ctx_x0_house {cs : Cs} {z : Nat} {kd : Kd} (P : Ptr) (I : Mem) (x1 : Int32) (x2 : Int32) (x3 : Int32) (hz : kd z = (0, 0, 0)) : CtX cs z kd yX0_house cX0_house 4 (some .int) 1 24 [.ref z, .int x1, .int x2, .int x3] (P, I) (fun r => (some (.int r.1), (P, r.2))) (x0_house I z x1 x2 x3) := by
  refine CtX.of RX0 (by decide) rfl (Nat.le_of_ble_eq_true rfl) ?_
  intro l D sz p e s m args below meth c hsh K hr hlk hK
  refine g_sub (ls' := [(0, .ref z), (1, .int x1), (2, .int x2), (3, .int x3)]) [0, 1, 2, 3] rfl ?_
  unfold x0_house
  refine g_iloadn K 1 rfl rfl 1 dX0_house_0 rfl ?_
  refine g_iconst K (nI 0) ic_0 2 dX0_house_1 rfl ?_
  refine g_bipush K (nI 99) bp_99 4 dX0_house_2 rfl ?_
  refine g_callS K 7 (cts_x0_isIn x1 (nI 0) (nI 99)) (lw_S q478 q479 q151 q480) wds_x0_isIn (by decide) rfl (Nat.le_of_ble_eq_true rfl) dX0_house_4 rfl (fun r1 _ => ?_)
  refine g_if_eq K 10 42 dX0_house_7 rfl (by decide) (fun _ => ?_) (fun _ => ?_)
  · refine g_iconst K (-1 : Int32) ic_m1 43 dX0_house_42 rfl ?_
    exact gx_iret K hK hsh hr hlk dX0_house_43 rfl
  · refine g_iloadn K 2 rfl rfl 11 dX0_house_10 rfl ?_
    refine g_iconst K (nI 0) ic_0 12 dX0_house_11 rfl ?_
    refine g_bipush K (nI 9) bp_9 14 dX0_house_12 rfl ?_
    refine g_callS K 17 (cts_x0_isIn x2 (nI 0) (nI 9)) (lw_S q478 q479 q151 q480) wds_x0_isIn (by decide) rfl (Nat.le_of_ble_eq_true rfl) dX0_house_14 rfl (fun r2 _ => ?_)
    refine g_if_eq K 20 42 dX0_house_17 rfl (by decide) (fun _ => ?_) (fun _ => ?_)
    · refine g_iconst K (-1 : Int32) ic_m1 43 dX0_house_42 rfl ?_
      exact gx_iret K hK hsh hr hlk dX0_house_43 rfl
    · refine g_iloadn K 3 rfl rfl 21 dX0_house_20 rfl ?_
      refine g_iconst K (nI 0) ic_0 22 dX0_house_21 rfl ?_
      refine g_bipush K (nI 9) bp_9 24 dX0_house_22 rfl ?_
      refine g_callS K 27 (cts_x0_isIn x3 (nI 0) (nI 9)) (lw_S q478 q479 q151 q480) wds_x0_isIn (by decide) rfl (Nat.le_of_ble_eq_true rfl) dX0_house_24 rfl (fun r3 _ => ?_)
      refine g_if_eq K 30 42 dX0_house_27 rfl (by decide) (fun _ => ?_) (fun _ => ?_)
      · refine g_iconst K (-1 : Int32) ic_m1 43 dX0_house_42 rfl ?_
        exact gx_iret K hK hsh hr hlk dX0_house_43 rfl
      · refine g_aloadn K 0 rfl rfl 31 dX0_house_30 rfl ?_
        refine gx_get K hK hsh 4 (v := .ref (z + 2)) 34 in_X0 hz rfl (Nat.le_of_ble_eq_true rfl) rfl (by decide) (Or.inl q411) rfl dX0_house_31 rfl ?_
        refine gx_get K hK hsh 14 (v := .int (I (z + 2) 14)) 37 in_X1 (sh_0_borough hsh hz) rfl (Nat.le_of_ble_eq_true rfl) rfl (by decide) (Or.inr (nf_q327 hK.2)) rfl dX0_house_34 rfl ?_
        refine g_bipush K (nI 12) bp_12 39 dX0_house_37 rfl ?_
        refine g_icmp_ne K 42 44 dX0_house_39 rfl (by decide) (fun _ => ?_) (fun _ => ?_)
        · refine g_iconst K (-1 : Int32) ic_m1 43 dX0_house_42 rfl ?_
          exact gx_iret K hK hsh hr hlk dX0_house_43 rfl
        · refine g_aloadn K 0 rfl rfl 45 dX0_house_44 rfl ?_
          refine g_aloadn K 0 rfl rfl 46 dX0_house_45 rfl ?_
          refine gx_get K hK hsh 4 (v := .ref (z + 2)) 49 in_X0 hz rfl (Nat.le_of_ble_eq_true rfl) rfl (by decide) (Or.inl q411) rfl dX0_house_46 rfl ?_
          refine gx_get K hK hsh 14 (v := .int (I (z + 2) 14)) 52 in_X1 (sh_0_borough hsh hz) rfl (Nat.le_of_ble_eq_true rfl) rfl (by decide) (Or.inr (nf_q327 hK.2)) rfl dX0_house_49 rfl ?_
          refine gx_call K hK hsh 55 (ctx_x0_at P I (I (z + 2) 14) hz) (lw_V q1004 q1006 qs29 q151 q1007) wd_x0_at hz rfl (Nat.le_of_ble_eq_true rfl) rfl (by decide) rfl (Nat.le_of_ble_eq_true rfl) dX0_house_52 rfl (fun r4 hr5 => ?_)
          refine g_iloadn K 1 rfl rfl 56 dX0_house_55 rfl ?_
          refine g_iloadn K 2 rfl rfl 57 dX0_house_56 rfl ?_
          refine g_iloadn K 3 rfl rfl 58 dX0_house_57 rfl ?_
          refine gx_call K hK hsh 61 (ctx_x3_begins P I r4 x1 x2 x3 (at_kd hsh hz hr5)) (lw_V q1008 q1009 q1010 q157 q1011) wd_x3_begins (at_kd hsh hz hr5) rfl (Nat.le_of_ble_eq_true rfl) rfl (by decide) rfl (Nat.le_of_ble_eq_true rfl) dX0_house_58 rfl (fun r6 hr7 => ?_)
          refine g_aloadn K 0 rfl rfl 62 dX0_house_61 rfl ?_
          refine gx_get K hK hsh 4 (v := .ref (z + 2)) 65 in_X0 hz rfl (Nat.le_of_ble_eq_true rfl) rfl (by decide) (Or.inl q411) rfl dX0_house_62 rfl ?_
          refine g_dup K rfl 66 dX0_house_65 rfl ?_
          refine gx_get K hK hsh 14 (v := .int (r6 (z + 2) 14)) 69 in_X1 (sh_0_borough hsh hz) rfl (Nat.le_of_ble_eq_true rfl) rfl (by decide) (Or.inr (nf_q327 hK.2)) rfl dX0_house_66 rfl ?_
          refine g_iconst K (nI 1) ic_1 70 dX0_house_69 rfl ?_
          refine g_iadd K 71 dX0_house_70 rfl ?_
          refine gx_put K hK hsh 14 (ty := .int) 74 in_X1 tyX1 tyX1_ok nmX1 (sh_0_borough hsh hz) rfl rfl (Nat.le_of_ble_eq_true rfl) rfl (by decide) (Or.inr (nf_q327 hK.2)) rfl (by decide +kernel) rfl rfl (Nat.le_of_ble_eq_true rfl) dX0_house_71 rfl (fun I8 _ => ?_)
          refine g_aloadn K 0 rfl rfl 75 dX0_house_74 rfl ?_
          refine gx_call K hK hsh 78 (ctx_x0_forgets P I8 hz) (lw_V q972 q974 qs28 q151 q975) wd_x0_forgets hz rfl (Nat.le_of_ble_eq_true rfl) rfl (by decide) rfl (Nat.le_of_ble_eq_true rfl) dX0_house_75 rfl (fun r9 hr10 => ?_)
          refine g_pop K rfl 79 dX0_house_78 rfl ?_
          refine g_aloadn K 0 rfl rfl 80 dX0_house_79 rfl ?_
          refine gx_get K hK hsh 4 (v := .ref (z + 2)) 83 in_X0 hz rfl (Nat.le_of_ble_eq_true rfl) rfl (by decide) (Or.inl q411) rfl dX0_house_80 rfl ?_
          refine gx_get K hK hsh 14 (v := .int (r9.2 (z + 2) 14)) 86 in_X1 (sh_0_borough hsh hz) rfl (Nat.le_of_ble_eq_true rfl) rfl (by decide) (Or.inr (nf_q327 hK.2)) rfl dX0_house_83 rfl ?_
          refine g_iconst K (nI 1) ic_1 87 dX0_house_86 rfl ?_
          refine g_isub K 88 dX0_house_87 rfl ?_
          exact gx_iret K hK hsh hr hlk dX0_house_88 rfl
/-- GingerRents.isHouse(I)Z -/
def x0_isHouse (I : Mem) (z : Nat) (x1 : Int32) : Option (Bool) :=
  (x0_isIn x1 (nI 0) ((I (z + 2) 14) - (nI 1))).bind fun r1 =>
  some r1
theorem wd_x0_isHouse : yX0_isHouse.cls = RX0 ∧ yX0_isHouse.cls ≠ "java/lang/invoke/MethodHandle" ∧ yX0_isHouse.cls ≠ "java/lang/invoke/VarHandle" ∧ (parseMethodDescriptor yX0_isHouse.desc).map (fun d => d.parameters.length) = some 1 := by decide +kernel
set_option maxRecDepth 100000 in
theorem ctx_x0_isHouse {cs : Cs} {z : Nat} {kd : Kd} (P : Ptr) (I : Mem) (x1 : Int32) (hz : kd z = (0, 0, 0)) : CtX cs z kd yX0_isHouse cX0_isHouse 2 (some .boolean) 1 22 [.ref z, .int x1] (P, I) (fun r => (some (.int (bI r)), (P, I))) (x0_isHouse I z x1) := by
  refine CtX.of RX0 (by decide) rfl (Nat.le_of_ble_eq_true rfl) ?_
  intro l D sz p e s m args below meth c hsh K hr hlk hK
  refine g_sub (ls' := [(0, .ref z), (1, .int x1)]) [0, 1] rfl ?_
  unfold x0_isHouse
  refine g_iloadn K 1 rfl rfl 1 dX0_isHouse_0 rfl ?_
  refine g_iconst K (nI 0) ic_0 2 dX0_isHouse_1 rfl ?_
  refine g_aloadn K 0 rfl rfl 3 dX0_isHouse_2 rfl ?_
  refine gx_get K hK hsh 4 (v := .ref (z + 2)) 6 in_X0 hz rfl (Nat.le_of_ble_eq_true rfl) rfl (by decide) (Or.inl q411) rfl dX0_isHouse_3 rfl ?_
  refine gx_get K hK hsh 14 (v := .int (I (z + 2) 14)) 9 in_X1 (sh_0_borough hsh hz) rfl (Nat.le_of_ble_eq_true rfl) rfl (by decide) (Or.inr (nf_q327 hK.2)) rfl dX0_isHouse_6 rfl ?_
  refine g_iconst K (nI 1) ic_1 10 dX0_isHouse_9 rfl ?_
  refine g_isub K 11 dX0_isHouse_10 rfl ?_
  refine g_callS K 14 (cts_x0_isIn x1 (nI 0) ((I (z + 2) 14) - (nI 1))) (lw_S q478 q479 q151 q480) wds_x0_isIn (by decide) rfl (Nat.le_of_ble_eq_true rfl) dX0_isHouse_11 rfl (fun r1 _ => ?_)
  exact gx_zret K hK hsh hr hlk (b := r1) dX0_isHouse_14 rfl rfl
/-- GingerRents.canSet(III)Z -/
def x0_canSet (I : Mem) (z : Nat) (x1 : Int32) (x2 : Int32) (x3 : Int32) : Option (Bool) :=
  if x1 = (nI 8) then
  (x0_isIn x3 (nI 0) (nI 9)).bind fun r8 =>
  some r8
  else
  (x0_isHouse I z x2).bind fun r1 =>
  if (bI r1) = 0 then
  some false
  else
  (x0_isIn x1 (nI 0) (nI 7)).bind fun r3 =>
  if (bI r3) = 0 then
  some false
  else
  jn (fun (j4 : Int32) =>
  (x0_isIn x3 (nI 0) j4).bind fun r7 =>
  if (bI r7) = 0 then
  some false
  else
  some true) (fun k5 =>
  if x1 < (nI 4) then
  k5 (nI 99)
  else
  if x1 = (nI 7) then
  k5 (nI 99)
  else
  k5 (nI 9))
theorem wd_x0_canSet : yX0_canSet.cls = RX0 ∧ yX0_canSet.cls ≠ "java/lang/invoke/MethodHandle" ∧ yX0_canSet.cls ≠ "java/lang/invoke/VarHandle" ∧ (parseMethodDescriptor yX0_canSet.desc).map (fun d => d.parameters.length) = some 3 := by decide +kernel
set_option maxRecDepth 100000 in
theorem ctx_x0_canSet {cs : Cs} {z : Nat} {kd : Kd} (P : Ptr) (I : Mem) (x1 : Int32) (x2 : Int32) (x3 : Int32) (hz : kd z = (0, 0, 0)) : CtX cs z kd yX0_canSet cX0_canSet 4 (some .boolean) 2 43 [.ref z, .int x1, .int x2, .int x3] (P, I) (fun r => (some (.int (bI r)), (P, I))) (x0_canSet I z x1 x2 x3) := by
  refine CtX.of RX0 (by decide) rfl (Nat.le_of_ble_eq_true rfl) ?_
  intro l D sz p e s m args below meth c hsh K hr hlk hK
  refine g_sub (ls' := [(0, .ref z), (1, .int x1), (2, .int x2), (3, .int x3)]) [0, 1, 2, 3] rfl ?_
  unfold x0_canSet
  refine g_iloadn K 1 rfl rfl 1 dX0_canSet_0 rfl ?_
  refine g_bipush K (nI 8) bp_8 3 dX0_canSet_1 rfl ?_
  refine g_icmp_ne K 6 14 dX0_canSet_3 rfl (by decide) (fun _ => ?_) (fun _ => ?_)
  · refine g_iloadn K 3 rfl rfl 7 dX0_canSet_6 rfl ?_
    refine g_iconst K (nI 0) ic_0 8 dX0_canSet_7 rfl ?_
    refine g_bipush K (nI 9) bp_9 10 dX0_canSet_8 rfl ?_
    refine g_callS K 13 (cts_x0_isIn x3 (nI 0) (nI 9)) (lw_S q478 q479 q151 q480) wds_x0_isIn (by decide) rfl (Nat.le_of_ble_eq_true rfl) dX0_canSet_10 rfl (fun r8 _ => ?_)
    exact gx_zret K hK hsh hr hlk (b := r8) dX0_canSet_13 rfl rfl
  · refine g_aloadn K 0 rfl rfl 15 dX0_canSet_14 rfl ?_
    refine g_iloadn K 2 rfl rfl 16 dX0_canSet_15 rfl ?_
    refine gx_call K hK hsh 19 (ctx_x0_isHouse P I x2 hz) (lw_V q1020 q1022 qs31 q151 q1023) wd_x0_isHouse hz rfl (Nat.le_of_ble_eq_true rfl) rfl (by decide) rfl (Nat.le_of_ble_eq_true rfl) dX0_canSet_16 rfl (fun r1 hr2 => ?_)
    refine g_if_eq K 22 62 dX0_canSet_19 rfl (by decide) (fun _ => ?_) (fun _ => ?_)
    · refine g_iconst K (nI 0) ic_0 63 dX0_canSet_62 rfl ?_
      exact gx_zret K hK hsh hr hlk (b := false) dX0_canSet_63 rfl rfl
    · refine g_iloadn K 1 rfl rfl 23 dX0_canSet_22 rfl ?_
      refine g_iconst K (nI 0) ic_0 24 dX0_canSet_23 rfl ?_
      refine g_bipush K (nI 7) bp_7 26 dX0_canSet_24 rfl ?_
      refine g_callS K 29 (cts_x0_isIn x1 (nI 0) (nI 7)) (lw_S q478 q479 q151 q480) wds_x0_isIn (by decide) rfl (Nat.le_of_ble_eq_true rfl) dX0_canSet_26 rfl (fun r3 _ => ?_)
      refine g_if_eq K 32 62 dX0_canSet_29 rfl (by decide) (fun _ => ?_) (fun _ => ?_)
      · refine g_iconst K (nI 0) ic_0 63 dX0_canSet_62 rfl ?_
        exact gx_zret K hK hsh hr hlk (b := false) dX0_canSet_63 rfl rfl
      · refine g_iloadn K 3 rfl rfl 33 dX0_canSet_32 rfl ?_
        refine g_iconst K (nI 0) ic_0 34 dX0_canSet_33 rfl ?_
        refine g_iloadn K 1 rfl rfl 35 dX0_canSet_34 rfl ?_
        refine g_iconst K (nI 4) ic_4 36 dX0_canSet_35 rfl ?_
        refine g_jn (head := 52) (L := fun j4 => [(0, .ref z)]) (sf := fun j4 => [.int j4, .int (nI 0), .int x3]) (mf := fun j4 => (P, I)) (fun j4 => ?_) (fun k5 h6 => ?_)
        · try dsimp only
          refine g_callS K 55 (cts_x0_isIn x3 (nI 0) j4) (lw_S q478 q479 q151 q480) wds_x0_isIn (by decide) rfl (Nat.le_of_ble_eq_true rfl) dX0_canSet_52 rfl (fun r7 _ => ?_)
          refine g_if_eq K 58 62 dX0_canSet_55 rfl (by decide) (fun _ => ?_) (fun _ => ?_)
          · refine g_iconst K (nI 0) ic_0 63 dX0_canSet_62 rfl ?_
            exact gx_zret K hK hsh hr hlk (b := false) dX0_canSet_63 rfl rfl
          · refine g_iconst K (nI 1) ic_1 59 dX0_canSet_58 rfl ?_
            refine g_goto K 63 dX0_canSet_59 (by decide) ?_
            exact gx_zret K hK hsh hr hlk (b := true) dX0_canSet_63 rfl rfl
        · refine g_icmp_lt K 39 45 dX0_canSet_36 rfl (by decide) (fun _ => ?_) (fun _ => ?_)
          · refine g_bipush K (nI 99) bp_99 47 dX0_canSet_45 rfl ?_
            refine g_goto K 52 dX0_canSet_47 (by decide) ?_
            refine g_sub (ls' := [(0, .ref z)]) [0] rfl ?_
            exact h6 (nI 99)
          · refine g_iloadn K 1 rfl rfl 40 dX0_canSet_39 rfl ?_
            refine g_bipush K (nI 7) bp_7 42 dX0_canSet_40 rfl ?_
            refine g_icmp_ne K 45 50 dX0_canSet_42 rfl (by decide) (fun _ => ?_) (fun _ => ?_)
            · refine g_bipush K (nI 99) bp_99 47 dX0_canSet_45 rfl ?_
              refine g_goto K 52 dX0_canSet_47 (by decide) ?_
              refine g_sub (ls' := [(0, .ref z)]) [0] rfl ?_
              exact h6 (nI 99)
            · refine g_bipush K (nI 9) bp_9 52 dX0_canSet_50 rfl ?_
              refine g_sub (ls' := [(0, .ref z)]) [0] rfl ?_
              exact h6 (nI 9)
