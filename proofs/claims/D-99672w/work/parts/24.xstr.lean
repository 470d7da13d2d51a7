
/-- a constant's length, and its char at j -/
def sLen (i : Nat) : Nat := strN.getD i 0
def sAt (i j : Nat) : Int32 := (strB.getD i []).getD j 0
section GSTR
variable {p : Program} {l : Launch} {e : Env} {fr lo : Nat} {s : State} {m : MethodId} {args : Array Value} {below : List Frame} {meth : Method} {c : Code} {nL : Nat} {c0 k0 : Nat × Nat} {D : va_G} {cs : Cs} {z sz : Nat} {kd : Kd} {O : Type} {pc : Nat} {ls : List (Nat × Value)} {st : List Value} {P : Ptr} {I : Mem} {σ : Ptr × Mem} {q : O → En} {o : Option O} {cc : ByteArray} {own : String}
theorem gx_ldcs (K : CallFix p m c cc nL s args lw_all own) (hK : xK D cs z s) (i : Nat) {index : Nat} {tx : String} (n : Nat) (hw : strL[i]? = some (own, index, tx)) (hd : decode cc pc = .ok (.ldc index, 2)) (hn : pc + 2 = n) (g : Gx p l e fr lo s m args below meth c nL c0 k0 D cs z sz kd n ls (.ref (cs (100 + i)) :: st) σ q o) : Gx p l e fr lo s m args below meth c nL c0 k0 D cs z sz kd pc ls st σ q o := by
  subst hn
  exact G.map (fun R H locs ce sl Q la hl k => va_ldcS K.1 K.2.1 K.2.2.2.1 (hK.2.2.2.2.2.2.2.1 i _ hw) hd (k la hl)) g
theorem gx_sval (K : CallFix p m c cc nL s args lw_all own) (hK : xK D cs z s) (i : Nat) (hi : i < 27) {index : Nat} (n : Nat) (hlink : Cond.fieldLink own index "java/lang/String" "value" "[B" ∈ lw_all) (hd : decode cc pc = .ok (.getfield index, 3)) (hn : pc + 3 = n) (g : Gx p l e fr lo s m args below meth c nL c0 k0 D cs z sz kd n ls (.ref (cs (200 + i)) :: st) σ q o) : Gx p l e fr lo s m args below meth c nL c0 k0 D cs z sz kd pc ls (.ref (cs (100 + i)) :: st) σ q o := by
  subst hn
  intro out ho h1 h2
  have g' := g out ho h1 h2
  exact ⟨g'.1, fun H locs la hR hS hl => vk_getf K.1 K.2.1 (hK.2.2.2.2.2.2.1.1 i hi).2.2.1 hS K.2.2.2.1 (K.2.2.2.2 _ hlink) (fun _ h => h) hd (g'.2 H locs la hR hS hl)⟩
theorem gx_scod (K : CallFix p m c cc nL s args lw_all own) (hK : xK D cs z s) (i : Nat) (hi : i < 27) {index : Nat} (n : Nat) (hlink : Cond.fieldLink own index "java/lang/String" "coder" "B" ∈ lw_all) (hd : decode cc pc = .ok (.getfield index, 3)) (hn : pc + 3 = n) (g : Gx p l e fr lo s m args below meth c nL c0 k0 D cs z sz kd n ls (.int 0 :: st) σ q o) : Gx p l e fr lo s m args below meth c nL c0 k0 D cs z sz kd pc ls (.ref (cs (100 + i)) :: st) σ q o := by
  subst hn
  intro out ho h1 h2
  have g' := g out ho h1 h2
  exact ⟨g'.1, fun H locs la hR hS hl => vk_getf K.1 K.2.1 (hK.2.2.2.2.2.2.1.1 i hi).2.1 hS K.2.2.2.1 (K.2.2.2.2 _ hlink) (fun _ h => h) hd (g'.2 H locs la hR hS hl)⟩
theorem gx_slen (K : CallFix p m c cc nL s args lw_all own) (hK : xK D cs z s) (i : Nat) (hi : i < 27) (n : Nat) (hd : decode cc pc = .ok (.arraylength, 1)) (hn : pc + 1 = n) (g : Gx p l e fr lo s m args below meth c nL c0 k0 D cs z sz kd n ls (.int (nI (sLen i)) :: st) σ q o) : Gx p l e fr lo s m args below meth c nL c0 k0 D cs z sz kd pc ls (.ref (cs (200 + i)) :: st) σ q o := by
  subst hn
  intro out ho h1 h2
  have g' := g out ho h1 h2
  exact ⟨g'.1, fun H locs la hR hS hl => va_tlen (v := nI (sLen i)) K.1 K.2.1 (hK.2.2.2.2.2.2.1.1 i hi).2.2.2 hS rfl hd (g'.2 H locs la hR hS hl)⟩
theorem gx_sbld (K : CallFix p m c cc nL s args lw_all own) (hK : xK D cs z s) (i : Nat) (hi : i < 27) {x : Int32} {kk : Nat → Option O} (n : Nat) (hd : decode cc pc = .ok (.baload, 1)) (hn : pc + 1 = n) (g : ∀ j, ix (sLen i) x = some j → Gx p l e fr lo s m args below meth c nL c0 k0 D cs z sz kd n ls (.int (sAt i j) :: st) σ q (kk j)) : Gx p l e fr lo s m args below meth c nL c0 k0 D cs z sz kd pc ls (.int x :: .ref (cs (200 + i)) :: st) σ q ((ix (sLen i) x).bind kk) := by
  subst hn
  intro out ho h1 h2
  obtain ⟨j, hj, hk⟩ := Option.bind_eq_some_iff.mp ho
  obtain ⟨hin, hij, hlt⟩ := ix_some hj
  have g' := g j hj out hk h1 h2
  subst hij
  exact ⟨g'.1, fun H locs la hR hS hl => va_tb K.1 K.2.1 (hK.2.2.2.2.2.2.1.1 i hi).2.2.2 hS hin rfl hd (g'.2 H locs la hR hS hl)⟩
theorem gx_gcomp (K : CallFix p m c cc nL s args lw_all own) (hK : xK D cs z s) {index : Nat} (n : Nat) (hlink : Cond.fieldLink own index "java/lang/String" "COMPACT_STRINGS" "Z" ∈ lw_all) (hd : decode cc pc = .ok (.getstatic index, 3)) (hn : pc + 3 = n) (g : Gx p l e fr lo s m args below meth c nL c0 k0 D cs z sz kd n ls (.int 1 :: st) σ q o) : Gx p l e fr lo s m args below meth c nL c0 k0 D cs z sz kd pc ls st σ q o := by
  subst hn
  intro out ho h1 h2
  have g' := g out ho h1 h2
  exact ⟨g'.1, fun H locs la hR hS hl => va_gets K.1 K.2.1 hK.2.2.2.2.2.2.2.2.1 hS K.2.2.2.1 (K.2.2.2.2 _ hlink) (fun _ h => h) hd (g'.2 H locs la hR hS hl)⟩
theorem gx_gfmt (K : CallFix p m c cc nL s args lw_all own) (hK : xK D cs z s) {index : Nat} (n : Nat) (hlink : Cond.fieldLink own index "jdk/internal/util/Preconditions" "SIOOBE_FORMATTER" "Ljava/util/function/BiFunction;" ∈ lw_all) (hd : decode cc pc = .ok (.getstatic index, 3)) (hn : pc + 3 = n) (g0 : Gx p l e fr lo s m args below meth c nL c0 k0 D cs z sz kd n ls (.null :: st) σ q o) (g1 : ∀ b, Gx p l e fr lo s m args below meth c nL c0 k0 D cs z sz kd n ls (.ref b :: st) σ q o) : Gx p l e fr lo s m args below meth c nL c0 k0 D cs z sz kd pc ls st σ q o := by
  subst hn
  intro out ho h1 h2
  have g' := g0 out ho h1 h2
  refine ⟨g'.1, fun H locs la hR hS hl => ?_⟩
  rcases hK.2.2.2.2.2.2.2.2.2.2.2.1 with h | ⟨b, h⟩
  · exact va_gets K.1 K.2.1 h hS K.2.2.2.1 (K.2.2.2.2 _ hlink) (fun _ h => h) hd (g'.2 H locs la hR hS hl)
  · exact va_gets K.1 K.2.1 h hS K.2.2.2.1 (K.2.2.2.2 _ hlink) (fun _ h => h) hd ((g1 b out ho h1 h2).2 H locs la hR hS hl)
theorem gx_i2c (K : CallFix p m c cc nL s args lw_all own) {x : Int32} (n : Nat) (hd : decode cc pc = .ok (.i2c, 1)) (hn : pc + 1 = n) (g : Gx p l e fr lo s m args below meth c nL c0 k0 D cs z sz kd n ls (.int (x.toUInt32 % 65536).toInt32 :: st) σ q o) : Gx p l e fr lo s m args below meth c nL c0 k0 D cs z sz kd pc ls (.int x :: st) σ q o := by
  subst hn
  exact G.map (fun R H locs ce sl Q la hl k => lv_i2c K.1 K.2.1 hd rfl (k la hl)) g
/-- an answer of a small type -/
theorem gx_nret (K : CallFix p m c cc nL s args lw_all own) (hK : xK D cs z s) {ty : FieldType} (hr : meth.sig.returnType = some ty) (hlk : meth.locks = false) {v : Int32} {r : O} {fin : O → Option Value × (Ptr × Mem)} (hd : decode cc pc = .ok (.ireturn, 1)) (hnar : narrow ty (.int v) = .int v) (hfin : fin r = (some (.int v), (P, I))) : Gx p l e fr lo s m args below meth c nL (0, 0) (0, 0) D cs z sz kd pc ls [.int v] (P, I) (xq D cs z sz kd s args below fin) (some r) := by
  intro out ho h1 h2
  cases ho
  refine ⟨⟨Nat.le_refl _, Nat.le_refl _⟩, fun H locs la hR hS hl => ?_⟩
  exact W.zret K.1 K.2.1 hr hnar (fun t ht hW => ⟨⟨by rw [hfin], by rw [hfin, ht]; exact hR⟩, hS.F ht⟩) hS.2.2 hd hlk
/-- a call on a string constant -/
theorem gx_calls (K : CallFix p m c cc nL s args lw_all own) (hK : xK D cs z s) (hsh : Shp z kd) (i : Nat) (hi : i < 27) {y : MethodName} {bytes : ByteArray} {maxL index : Nat} {ret : Option FieldType} {fr' lo' : Nat} {vals stk : List Value} {O' : Type} {fin' : O' → Option Value × (Ptr × Mem)} {o' : Option O'} {kk : O' → Option O} (n : Nat) (hC : CtX cs z kd y bytes maxL ret fr' lo' (.ref (cs (100 + i)) :: vals) (P, I) fin' o') (hw : GoodIn lw_all (wsV own index "java/lang/String" y (ws_ y bytes maxL ret)))
    (hdd : y.cls = "java/lang/String" ∧ y.cls ≠ "java/lang/invoke/MethodHandle" ∧ y.cls ≠ "java/lang/invoke/VarHandle" ∧ (parseMethodDescriptor y.desc).map (fun d => d.parameters.length) = some vals.length) (hroom : fr' + 1 ≤ fr ∧ 8 + (maxL + 11) + lo' ≤ lo) (hstk : stk = vals.reverse ++ .ref (cs (100 + i)) :: st) (hcat : (st.map fun v => v.category).sum ≤ 8)
    (hd : decode cc pc = .ok (.invokevirtual index, 3)) (hn : pc + 3 = n) (g : ∀ r, o' = some r → Gx p l e fr lo s m args below meth c nL c0 k0 D cs z sz kd n ls ((fin' r).1.toList ++ st) (fin' r).2 q (kk r)) : Gx p l e fr lo s m args below meth c nL c0 k0 D cs z sz kd pc ls stk (P, I) q (o'.bind kk) := by
  subst hstk
  intro out ho h1 h2
  obtain ⟨r, hr, hk⟩ := Option.bind_eq_some_iff.mp ho
  have g' := g r hr out hk h1 h2
  refine ⟨g'.1, fun H locs la hR hS hl => ?_⟩
  have hrc := vk_recv hK.2.2.2.2.2.2.1 hi hS
  refine x_after hS (va_runV (As := vals) (rest := st) K (hC l D sz hsh r hr) (cwV vals.length K.2.2.2.2 hw rfl rfl rfl hdd hroom) ⟨fun a U g mk q => by obtain ⟨q0, q1, q2⟩ := q; exact ⟨q0, q1, xK.same rfl rfl q2⟩, hrc, fun U hU hW => ⟨rfl, by rw [hU]; exact hR, xK.warm hW hS hU hK⟩⟩ rfl rfl hl.1 rfl (lv_room hcat) hd ⟨Nat.sub_le_sub_right g'.1.1 _, Nat.sub_le_sub_right g'.1.2 _⟩) hn (fun H1 locs1 hR1 hS1 => g'.2 H1 locs1 la hR1 hS1 hl)
/-- a static call with the class's world -/
theorem gx_callSt (K : CallFix p m c cc nL s args lw_all own) (hK : xK D cs z s) (hsh : Shp z kd) {y : MethodName} {bytes : ByteArray} {maxL index : Nat} {ret : Option FieldType} {fr' lo' : Nat} {vals stk : List Value} {O' : Type} {fin' : O' → Option Value × (Ptr × Mem)} {o' : Option O'} {kk : O' → Option O} (n : Nat) (hC : CtX cs z kd y bytes maxL ret fr' lo' vals (P, I) fin' o') (hw : GoodIn lw_all (va_wsS own index y (ws_ y bytes maxL ret)))
    (hdd : y.cls ≠ "java/lang/invoke/MethodHandle" ∧ y.cls ≠ "java/lang/invoke/VarHandle" ∧ (parseMethodDescriptor y.desc).map (fun d => d.parameters.length) = some vals.length) (hroom : fr' + 1 ≤ fr ∧ 8 + (maxL + 11) + lo' ≤ lo) (hstk : stk = vals.reverse ++ st) (hcat : (st.map fun v => v.category).sum ≤ 8)
    (hd : decode cc pc = .ok (.invokestatic index, 3)) (hn : pc + 3 = n) (g : ∀ r, o' = some r → Gx p l e fr lo s m args below meth c nL c0 k0 D cs z sz kd n ls ((fin' r).1.toList ++ st) (fin' r).2 q (kk r)) : Gx p l e fr lo s m args below meth c nL c0 k0 D cs z sz kd pc ls stk (P, I) q (o'.bind kk) := by
  subst hstk
  intro out ho h1 h2
  obtain ⟨r, hr, hk⟩ := Option.bind_eq_some_iff.mp ho
  have g' := g r hr out hk h1 h2
  refine ⟨g'.1, fun H locs la hR hS hl => ?_⟩
  refine x_after hS (va_runS (As := vals) (rest := st) K (hC l D sz hsh r hr) (va_cwS vals.length K.2.2.2.2 hw rfl rfl rfl hdd hroom) ⟨fun a U g mk q => by obtain ⟨q0, q1, q2⟩ := q; exact ⟨q0, q1, xK.same rfl rfl q2⟩, fun U hU hW => ⟨rfl, by rw [hU]; exact hR, xK.warm hW hS hU hK⟩⟩ rfl rfl hl.1 rfl (lv_room hcat) hd ⟨Nat.sub_le_sub_right g'.1.1 _, Nat.sub_le_sub_right g'.1.2 _⟩) hn (fun H1 locs1 hR1 hS1 => g'.2 H1 locs1 la hR1 hS1 hl)
end GSTR
