
/-! ===== the law's body: x's world and the model's ===== -/
abbrev Sl : Type := Sy × Mem
def lRep (D : va_G) (cs : Cs) (z : Nat) (σ : Sl) (H : Heap) : Prop := yRep D cs z σ.1 H ∧ mRep D clX 4 (cs 0) (z + 2463) σ.2 H
def lcnt (σ : Sl) : Nat × Nat := (σ.1.1, σ.1.2.1)
abbrev Gl (p : Program) (l : Launch) (e : Env) (s : State) (m : MethodId) (args : Array Value) (below : List Frame) (meth : Method) (c : Code) (D : va_G) (cs : Cs) (z : Nat) {O : Type} (pc : Nat) (ls : List (Nat × Value)) (st : List Value) (σ : Sl) (q : O → En) (o : Option O) : Prop :=
  G p l e 8192 100000 s m args below meth c 4 (z, 0) (lRep D cs z) lcnt (fun q => z ≤ q) pc ls st σ q o
/-- the script -/
def sc (L : Nat) (xs : Nat → Int32) (i : Int32) : Option Int32 := if i < 0 ∨ L ≤ i.toNatClampNeg then none else some (xs i.toNatClampNeg)
theorem mRep.kept {D : va_G} {cl : List vw_C} {ci : Nat} {cA : ClassId} {am : Nat} {μ : Mem} {H H1 : Heap} (h : mRep D cl ci cA am μ H) (hk : ∀ q : Nat, mA am q → H1[q]? = H[q]?) : mRep D cl ci cA am μ H1 := fun k q hq => by
  have ha := wm_addr ci cA am μ k q hq
  exact (h k q hq).kept (hk q.1 ⟨by omega, by omega⟩)
theorem mA_xA {z q : Nat} (h : mA (z + 2463) q) : ¬ xA z q := by
  unfold mA at h
  unfold xA
  omega
theorem xRep.kept {D : va_G} {cs : Cs} {z sz : Nat} {kd : Kd} {τ : Ptr × Mem} {H H1 : Heap} (hsh : Shp z kd) (h : xRep D cs z sz kd τ H) (hz : H1.size = H.size) (hk : ∀ q : Nat, xA z q → H1[q]? = H[q]?) : xRep D cs z sz kd τ H1 :=
  ⟨hz.trans h.1, fun a ha => (h.2 a ha).kept (hk a (sh_xA hsh ha))⟩
section GL
variable {p : Program} {l : Launch} {e : Env} {s : State} {m : MethodId} {args : Array Value} {below : List Frame} {meth : Method} {c : Code} {D : va_G} {cs : Cs} {z sz sl : Nat} {kd : Kd} {O : Type} {pc : Nat} {ls : List (Nat × Value)} {st : List Value} {P : Ptr} {I μ : Mem} {σ : Sl} {q : O → En} {o : Option O}
theorem gl_sld (K : CallFix p m c code 4 s args lw_all R_law) (hz0 : s.heap.size = z) {b L : Nat} {xs : Nat → Int32} (hX : va_X b L xs s s.heap) (hbl : b < s.heap.size) {i : Int32} {kk : Int32 → Option O} (n : Nat) (hd : decode code pc = .ok (.iaload, 1)) (hn : pc + 1 = n) (g : ∀ v, Gl p l e s m args below meth c D cs z n ls (.int v :: st) σ q (kk v)) : Gl p l e s m args below meth c D cs z pc ls (.int i :: .ref b :: st) σ q ((sc L xs i).bind kk) := by
  subst hn
  intro out ho h1 h2
  obtain ⟨v, hv, hk⟩ := Option.bind_eq_some_iff.mp ho
  have g' := g v out hk h1 h2
  refine ⟨g'.1, fun H locs la hR hS hl => ?_⟩
  unfold sc at hv
  split at hv
  · cases hv
  · next hin =>
    cases hv
    exact va_sld K.1 K.2.1 hX hbl (by rw [← hz0]; exact Nat.not_le.mpr hbl) hS hin hd (g'.2 H locs la hR hS hl)
theorem gl_slen (K : CallFix p m c code 4 s args lw_all R_law) (hz0 : s.heap.size = z) {b L : Nat} {xs : Nat → Int32} (hX : va_X b L xs s s.heap) (hbl : b < s.heap.size) (n : Nat) (hd : decode code pc = .ok (.arraylength, 1)) (hn : pc + 1 = n) (g : Gl p l e s m args below meth c D cs z n ls (.int (nI L) :: st) σ q o) : Gl p l e s m args below meth c D cs z pc ls (.ref b :: st) σ q o := by
  subst hn
  intro out ho h1 h2
  have g' := g out ho h1 h2
  exact ⟨g'.1, fun H locs la hR hS hl => va_slen K.1 K.2.1 hX hbl (by rw [← hz0]; exact Nat.not_le.mpr hbl) hS hd (g'.2 H locs la hR hS hl)⟩


/-- a state of the law's, its tables, its heap as it goes -/
theorem xK.warmL {U : State} {H : Heap} {locs : List Loc} (hW : s.WarmedH U.vm) (hS : va_S (fun q => z ≤ q) s.heap H locs) (hU : U.heap = H) (hz0 : s.heap.size = z) (h : xK D cs z s) : xK D cs z U :=
  xK.warm (locs := []) hW ⟨hS.1, fun q hq _ => hS.2.1 q hq (by rw [← hz0]; exact Nat.not_le.mpr hq), fun _ h => by cases h⟩ hU h
/-- x's method that makes no cells -/
theorem gl_callX (K : CallFix p m c code 4 s args lw_all R_law) (hK : xK D cs z s) (hz0 : s.heap.size = z) (hsh : Shp z kd) (hkz : kd z = (0, 0, 0)) {y : MethodName} {bytes : ByteArray} {maxL index : Nat} {ret : Option FieldType} {fr' lo' : Nat} {vals stk : List Value} {O' : Type} {fin' : O' → Option Value × (Ptr × Mem)} {o' : Option O'} {kk : O' → Option O} (n : Nat) (hC : CtX cs z kd y bytes maxL ret fr' lo' (.ref z :: vals) (P, I) fin' o') (hw : GoodIn lw_all (wsV R_law index RX0 y (ws_ y bytes maxL ret)))
    (hdd : y.cls = RX0 ∧ y.cls ≠ "java/lang/invoke/MethodHandle" ∧ y.cls ≠ "java/lang/invoke/VarHandle" ∧ (parseMethodDescriptor y.desc).map (fun d => d.parameters.length) = some vals.length) (hroom : fr' + 1 ≤ 8192 ∧ 8 + (maxL + 11) + lo' ≤ 100000) (hstk : stk = vals.reverse ++ .ref z :: st) (hcat : (st.map fun v => v.category).sum ≤ 8)
    (hd : decode code pc = .ok (.invokevirtual index, 3)) (hn : pc + 3 = n) (g : ∀ r, o' = some r → Gl p l e s m args below meth c D cs z n ls ((fin' r).1.toList ++ st) ((sz, sl, kd, (fin' r).2.1, (fin' r).2.2), μ) q (kk r)) : Gl p l e s m args below meth c D cs z pc ls stk ((sz, sl, kd, P, I), μ) q (o'.bind kk) := by
  subst hn
  subst hstk
  intro out ho h1 h2
  obtain ⟨r, hr, hk⟩ := Option.bind_eq_some_iff.mp ho
  have g' := g r hr out hk h1 h2
  refine ⟨g'.1, fun H locs la hR hS hl => ?_⟩
  obtain ⟨hRx, hRm⟩ := hR
  have hRx : xRep D cs z sz kd (P, I) H := hRx
  have hRm : mRep D clX 4 (cs 0) (z + 2463) μ H := hRm
  have hat := hRx.2 z (by rw [hkz]; exact Nat.le_of_ble_eq_true rfl)
  rw [hkz] at hat
  have hP : va_P D clX [(z, cellE cs z (0, 0, 0) z (P z) (I z))] H := fun k q hk => by
    cases k with
    | zero => cases hk; exact hat
    | succ k => simp at hk
  intro T hT X
  obtain ⟨v, st₀, t, T', L, h0, X', hL, e1, e2, ⟨⟨hv, hP1⟩, hF⟩, stp⟩ := va_runV (As := vals) (rest := st) K (hC l D sz hsh r hr) (cwV vals.length K.2.2.2.2 hw rfl rfl rfl hdd hroom) ⟨fun a U g mk q => by obtain ⟨q0, q1, q2⟩ := q; exact ⟨q0, q1, xK.same rfl rfl q2⟩, va_recv hK.1 hP (ci := 0) (q0 := 0) rfl rfl, fun U hU hW => ⟨rfl, by rw [hU]; exact hRx, xK.warmL hW hS hU hz0 hK⟩⟩ rfl rfl hl.1 rfl (lv_room hcat) hd ⟨Nat.sub_le_sub_right g'.1.1 _, Nat.sub_le_sub_right g'.1.2 _⟩ T hT X
  cases hv
  have hz : H.size ≤ t.heap.size := by rw [← h0]; exact hF.1
  have hS1 : va_S (fun q => z ≤ q) s.heap T'.heap (locs ++ L) := by
    refine ⟨by rw [e1]; exact Nat.le_trans hS.1 hz, fun x hx hxA => ?_, fun y hy => ?_⟩
    · rw [e1, hF.2 x (by rw [h0]; exact Nat.lt_of_lt_of_le hx hS.1) (fun h => hxA h.1), h0]
      exact hS.2.1 x hx hxA
    · rcases List.mem_append.mp hy with h | h
      · exact hS.2.2 y h
      · exact (hL y h).1
  have hM1 : mRep D clX 4 (cs 0) (z + 2463) μ T'.heap := by
    refine mRep.kept hRm (fun q hq => ?_)
    have hlt : q < H.size := by
      have hsz : H.size = sz := hRx.1
      have := (hRm 44 _ rfl).lt
      unfold mA at hq
      have e44 : (z + 2463 + 44 : Nat) < H.size := this
      omega
    rw [e1, hF.2 q (by rw [h0]; exact hlt) (mA_xA hq), h0]
  obtain ⟨t2, a1, b1⟩ := g'.2 T'.heap (locs ++ L) la ⟨by rw [e1]; exact hP1, hM1⟩ hS1 hl T' rfl X'
  exact ⟨t2, stp t2 a1, b1⟩
/-- x's method that makes cells -/
theorem gl_callB (K : CallFix p m c code 4 s args lw_all R_law) (hK : xK D cs z s) (hz0 : s.heap.size = z) (hlt : l.stackTraces = false) (hsh : Shp z kd) (hkz : kd z = (0, 0, 0)) {y : MethodName} {bytes : ByteArray} {maxL index : Nat} {ret : Option FieldType} {fr' lo' : Nat} {vals stk : List Value} {R' : Type} {fv' : R' → Option Value} {o' : Option (R' × Sy)} {kk : R' → Nat → Nat → Kd → Ptr → Mem → Option O} (n : Nat) (hC : CtB cs z y bytes maxL ret fr' lo' (.ref z :: vals) (sz, sl, kd, P, I) fv' o') (hw : GoodIn lw_all (wsV R_law index RX0 y (ws_ y bytes maxL ret)))
    (hdd : y.cls = RX0 ∧ y.cls ≠ "java/lang/invoke/MethodHandle" ∧ y.cls ≠ "java/lang/invoke/VarHandle" ∧ (parseMethodDescriptor y.desc).map (fun d => d.parameters.length) = some vals.length) (hroom : fr' + 1 ≤ 8192 ∧ 8 + (maxL + 11) + lo' ≤ 100000) (hstk : stk = vals.reverse ++ .ref z :: st) (hcat : (st.map fun v => v.category).sum ≤ 8)
    (hd : decode code pc = .ok (.invokevirtual index, 3)) (hn : pc + 3 = n) (g : ∀ v sz1 sl1 kd1 P1 I1, o' = some (v, sz1, sl1, kd1, P1, I1) → Gl p l e s m args below meth c D cs z n ls ((fv' v).toList ++ st) ((sz1, sl1, kd1, P1, I1), μ) q (kk v sz1 sl1 kd1 P1 I1)) : Gl p l e s m args below meth c D cs z pc ls stk ((sz, sl, kd, P, I), μ) q (cal o' kk) := by
  subst hn
  subst hstk
  intro out ho h1 h2
  obtain ⟨r, hr, hk⟩ := Option.bind_eq_some_iff.mp ho
  obtain ⟨⟨mm1, mm2⟩, hMet⟩ := hC l D hlt hsh r hr
  obtain ⟨rv, sz1, sl1, kd1, P1, I1⟩ := r
  have mm1 : sz ≤ sz1 := mm1
  have mm2 : sl ≤ sl1 := mm2
  have h1' : z ≤ sz := h1
  have g' := g rv sz1 sl1 kd1 P1 I1 hr out hk (Nat.le_trans h1' mm1) (Nat.zero_le _)
  have n1 : sz1 ≤ (q out).1.1 := g'.1.1
  have n2 : sl1 ≤ (q out).1.2 := g'.1.2
  refine ⟨⟨Nat.le_trans mm1 n1, Nat.le_trans mm2 n2⟩, fun H locs la hR hS hl => ?_⟩
  obtain ⟨hRx, hRm⟩ := hR
  have hRx : xRep D cs z sz kd (P, I) H := hRx
  have hRm : mRep D clX 4 (cs 0) (z + 2463) μ H := hRm
  have hat := hRx.2 z (by rw [hkz]; exact Nat.le_of_ble_eq_true rfl)
  rw [hkz] at hat
  have hP : va_P D clX [(z, cellE cs z (0, 0, 0) z (P z) (I z))] H := fun k q hk => by
    cases k with
    | zero => cases hk; exact hat
    | succ k => simp at hk
  intro T hT X
  obtain ⟨v, st₀, t, T', L, h0, X', hL, e1, e2, ⟨⟨hv, hP1⟩, hF⟩, stp⟩ := va_runV (As := vals) (rest := st) K hMet (cwV vals.length K.2.2.2.2 hw rfl rfl rfl hdd hroom) ⟨fun a U g mk q => by obtain ⟨q0, q1, q2⟩ := q; exact ⟨q0, q1, xK.same rfl rfl q2⟩, va_recv hK.1 hP (ci := 0) (q0 := 0) rfl rfl, fun U hU hW => ⟨rfl, by rw [hU]; exact hRx, xK.warmL hW hS hU hz0 hK⟩⟩ rfl rfl hl.1 rfl (lv_room hcat) hd ⟨by show sz - z + (sz1 - sz) ≤ (q out).1.1 - z; omega, by show sl - 0 + (sl1 - sl) ≤ (q out).1.2 - 0; omega⟩ T hT X
  cases hv
  have hz : H.size ≤ t.heap.size := by rw [← h0]; exact hF.1
  have hS1 : va_S (fun q => z ≤ q) s.heap T'.heap (locs ++ L) := by
    refine ⟨by rw [e1]; exact Nat.le_trans hS.1 hz, fun x hx hxA => ?_, fun y hy => ?_⟩
    · rw [e1, hF.2 x (by rw [h0]; exact Nat.lt_of_lt_of_le hx hS.1) (fun h => hxA h.1), h0]
      exact hS.2.1 x hx hxA
    · rcases List.mem_append.mp hy with h | h
      · exact hS.2.2 y h
      · exact (hL y h).1
  have hM1 : mRep D clX 4 (cs 0) (z + 2463) μ T'.heap := by
    refine mRep.kept hRm (fun q hq => ?_)
    have hlt : q < H.size := by
      have hsz : H.size = sz := hRx.1
      have := (hRm 44 _ rfl).lt
      unfold mA at hq
      have e44 : (z + 2463 + 44 : Nat) < H.size := this
      omega
    rw [e1, hF.2 q (by rw [h0]; exact hlt) (mA_xA hq), h0]
  have c1 : sz - z + (sz1 - sz) = sz1 - z := by omega
  have c2 : sl - 0 + (sl1 - sl) = sl1 - 0 := by omega
  have X'' : Stand p l e _ s m args below meth c T' (locs ++ L) (sz - z + (sz1 - sz)) (sl - 0 + (sl1 - sl)) := X'
  rw [c1, c2] at X''
  obtain ⟨t2, a1, b1⟩ := g'.2 T'.heap (locs ++ L) la ⟨by rw [e1]; exact hP1, hM1⟩ hS1 hl T' rfl X''
  exact ⟨t2, stp t2 a1, b1⟩
/-- text -/
theorem gl_callH (K : CallFix p m c code 4 s args lw_all R_law) (hK : xK D cs z s) (hz0 : s.heap.size = z) (hlt : l.stackTraces = false) (hsh : Shp z kd) (hkz : kd z = (0, 0, 0)) {y : MethodName} {bytes : ByteArray} {maxL index : Nat} {ret : Option FieldType} {fr' lo' : Nat} {vals stk : List Value} {R' : Type} {fv' : R' → Option Value} {o' : Option (R' × Sy)} {kk : R' → Nat → Nat → Kd → Ptr → Mem → Option O} (n : Nat) (hC : CtH cs z y bytes maxL ret fr' lo' (.ref z :: vals) (sz, sl, kd, P, I) fv' o') (hw : GoodIn lw_all (wsV R_law index RX0 y (wsW_ y bytes maxL ret hhT)))
    (hdd : y.cls = RX0 ∧ y.cls ≠ "java/lang/invoke/MethodHandle" ∧ y.cls ≠ "java/lang/invoke/VarHandle" ∧ (parseMethodDescriptor y.desc).map (fun d => d.parameters.length) = some vals.length) (hroom : fr' + 1 ≤ 8192 ∧ 8 + (maxL + 11) + lo' ≤ 100000) (hstk : stk = vals.reverse ++ .ref z :: st) (hcat : (st.map fun v => v.category).sum ≤ 8)
    (hd : decode code pc = .ok (.invokevirtual index, 3)) (hn : pc + 3 = n) (g : ∀ v sz1 sl1 kd1 P1 I1, o' = some (v, sz1, sl1, kd1, P1, I1) → Gl p l e s m args below meth c D cs z n ls ((fv' v).toList ++ st) ((sz1, sl1, kd1, P1, I1), μ) q (kk v sz1 sl1 kd1 P1 I1)) : Gl p l e s m args below meth c D cs z pc ls stk ((sz, sl, kd, P, I), μ) q (cal o' kk) := by
  subst hn
  subst hstk
  intro out ho h1 h2
  obtain ⟨r, hr, hk⟩ := Option.bind_eq_some_iff.mp ho
  obtain ⟨⟨mm1, mm2⟩, hMet⟩ := hC l D hlt hsh r hr
  obtain ⟨rv, sz1, sl1, kd1, P1, I1⟩ := r
  have mm1 : sz ≤ sz1 := mm1
  have mm2 : sl ≤ sl1 := mm2
  have h1' : z ≤ sz := h1
  have g' := g rv sz1 sl1 kd1 P1 I1 hr out hk (Nat.le_trans h1' mm1) (Nat.zero_le _)
  have n1 : sz1 ≤ (q out).1.1 := g'.1.1
  have n2 : sl1 ≤ (q out).1.2 := g'.1.2
  refine ⟨⟨Nat.le_trans mm1 n1, Nat.le_trans mm2 n2⟩, fun H locs la hR hS hl => ?_⟩
  obtain ⟨hRx, hRm⟩ := hR
  have hRx : xRep D cs z sz kd (P, I) H := hRx
  have hRm : mRep D clX 4 (cs 0) (z + 2463) μ H := hRm
  have hat := hRx.2 z (by rw [hkz]; exact Nat.le_of_ble_eq_true rfl)
  rw [hkz] at hat
  have hP : va_P D clX [(z, cellE cs z (0, 0, 0) z (P z) (I z))] H := fun k q hk => by
    cases k with
    | zero => cases hk; exact hat
    | succ k => simp at hk
  intro T hT X
  rcases vx_runVX (As := vals) (rest := st) (hh := hhT) (g := F0 m pc la (vals.reverse ++ .ref z :: st)) K hMet (vx_cwVW vals.length K.2.2.2.2 hw rfl rfl rfl hdd hroom) ⟨fun a U g mk q => by obtain ⟨q0, q1, q2⟩ := q; exact ⟨q0, q1, xK.same rfl rfl q2⟩, va_recv hK.1 hP (ci := 0) (q0 := 0) rfl rfl, fun U hU hW => ⟨rfl, by rw [hU]; exact hRx, xK.warmL hW hS hU hz0 hK⟩⟩ rfl rfl hl.1 rfl (lv_room hcat) hd ⟨by show sz - z + (sz1 - sz) ≤ (q out).1.1 - z; omega, by show sl - 0 + (sl1 - sl) ≤ (q out).1.2 - 0; omega⟩ T hT X with ⟨v, st₀, t, T', L, h0, X', hL, e1, e2, ⟨⟨hv, hP1⟩, hF⟩, stp⟩ | ⟨qa, st₀, t, T', L, E, ce, h0, X', hL, e1, e2, hv, -⟩
  · cases hv
    have hz : H.size ≤ t.heap.size := by rw [← h0]; exact hF.1
    have hS1 : va_S (fun q => z ≤ q) s.heap T'.heap (locs ++ L) := by
      refine ⟨by rw [e1]; exact Nat.le_trans hS.1 hz, fun x hx hxA => ?_, fun y hy => ?_⟩
      · rw [e1, hF.2 x (by rw [h0]; exact Nat.lt_of_lt_of_le hx hS.1) (fun h => hxA h.1), h0]
        exact hS.2.1 x hx hxA
      · rcases List.mem_append.mp hy with h | h
        · exact hS.2.2 y h
        · exact (hL y h).1
    have hM1 : mRep D clX 4 (cs 0) (z + 2463) μ T'.heap := by
      refine mRep.kept hRm (fun q hq => ?_)
      have hlt : q < H.size := by
        have hsz : H.size = sz := hRx.1
        have := (hRm 44 _ rfl).lt
        unfold mA at hq
        have e44 : (z + 2463 + 44 : Nat) < H.size := this
        omega
      rw [e1, hF.2 q (by rw [h0]; exact hlt) (mA_xA hq), h0]
    have c1 : sz - z + (sz1 - sz) = sz1 - z := by omega
    have c2 : sl - 0 + (sl1 - sl) = sl1 - 0 := by omega
    have X'' : Stand p l e _ s m args below meth c T' (locs ++ L) (sz - z + (sz1 - sz)) (sl - 0 + (sl1 - sl)) := X'
    rw [c1, c2] at X''
    obtain ⟨t2, a1, b1⟩ := g'.2 T'.heap (locs ++ L) la ⟨by rw [e1]; exact hP1, hM1⟩ hS1 hl T' rfl X''
    exact ⟨t2, stp t2 a1, b1⟩
  · exact hv.elim
/-- a method of the model -/
theorem gl_callM (K : CallFix p m c code 4 s args lw_all R_law) (hK : xK D cs z s) (hz0 : s.heap.size = z) (hsh : Shp z kd) {y : MethodName} {bytes : ByteArray} {maxL index : Nat} {ret : Option FieldType} {fr' lo' : Nat} {vals stk : List Value} {O' : Type} {fin' : O' → Option Value × Mem} {o' : Option O'} {kk : O' → Option O} (n : Nat) (hC : CtM y bytes maxL ret fr' lo' vals μ fin' o') (hw : GoodIn lw_all (wsV R_law index RX4 y (ws_ y bytes maxL ret)))
    (hdd : y.cls = RX4 ∧ y.cls ≠ "java/lang/invoke/MethodHandle" ∧ y.cls ≠ "java/lang/invoke/VarHandle" ∧ (parseMethodDescriptor y.desc).map (fun d => d.parameters.length) = some vals.length) (hroom : fr' + 1 ≤ 8192 ∧ 8 + (maxL + 11) + lo' ≤ 100000) (hstk : stk = vals.reverse ++ .ref (z + 2463) :: st) (hcat : (st.map fun v => v.category).sum ≤ 8)
    (hd : decode code pc = .ok (.invokevirtual index, 3)) (hn : pc + 3 = n) (g : ∀ r, o' = some r → Gl p l e s m args below meth c D cs z n ls ((fin' r).1.toList ++ st) ((sz, sl, kd, P, I), (fin' r).2) q (kk r)) : Gl p l e s m args below meth c D cs z pc ls stk ((sz, sl, kd, P, I), μ) q (o'.bind kk) := by
  subst hn
  subst hstk
  intro out ho h1 h2
  obtain ⟨r, hr, hk⟩ := Option.bind_eq_some_iff.mp ho
  have g' := g r hr out hk h1 h2
  have h1' : z ≤ sz := h1
  refine ⟨g'.1, fun H locs la hR hS hl => ?_⟩
  obtain ⟨hRx, hRm⟩ := hR
  have hRx : xRep D cs z sz kd (P, I) H := hRx
  have hRm : mRep D clX 4 (cs 0) (z + 2463) μ H := hRm
  have hKm : va_K D clX [(cs 0, .int)] s := hK.1.sub [0] rfl
  intro T hT X
  obtain ⟨v, st₀, t, T', L, h0, X', hL, e1, e2, ⟨⟨hv, hP1, -⟩, hF⟩, stp⟩ := va_runV (As := vals) (rest := st) K (hC l D clX 4 (cs 0) (z + 2463) rfl r hr) (cwV vals.length K.2.2.2.2 hw rfl rfl rfl hdd hroom) ⟨fun a U g mk q => by obtain ⟨q0, q1, q2⟩ := q; exact ⟨q0, q1, va_K.moved (u := U) (U := U.calling g mk a) (Vm.Alike.refl U.vm) q2⟩, va_recv hKm hRm (ci := 4) (q0 := 0) rfl rfl, fun U hU hW => ⟨rfl, by rw [hU]; exact hRm, va_K.moved hW.alike hKm⟩⟩ rfl rfl hl.1 rfl (lv_room hcat) hd ⟨Nat.sub_le_sub_right g'.1.1 _, Nat.sub_le_sub_right g'.1.2 _⟩ T hT X
  cases hv
  have hz : H.size ≤ t.heap.size := by rw [← h0]; exact hF.1
  have hS1 : va_S (fun q => z ≤ q) s.heap T'.heap (locs ++ L) := by
    refine ⟨by rw [e1]; exact Nat.le_trans hS.1 hz, fun x hx hxA => ?_, fun y hy => ?_⟩
    · rw [e1, hF.2 x (by rw [h0]; exact Nat.lt_of_lt_of_le hx hS.1) (fun h => hxA (by unfold mA at h; show z ≤ x; omega)), h0]
      exact hS.2.1 x hx hxA
    · rcases List.mem_append.mp hy with h | h
      · exact hS.2.2 y h
      · exact (by have h9 := hL y h; unfold mA at h9; show z ≤ y.base; omega)
  have hszT : T'.heap.size = H.size := by
    have u1 : T'.heap.size ≤ s.heap.size + (sz - z + 0) := X'.same.2.2.1
    have u2 : H.size = sz := hRx.1
    rw [e1] at u1 ⊢
    omega
  have hX1 : xRep D cs z sz kd (P, I) T'.heap := xRep.kept hsh hRx hszT (fun q hq => by
    by_cases hlt : q < H.size
    · rw [e1, hF.2 q (by rw [h0]; exact hlt) (fun h => mA_xA h hq), h0]
    · rw [Array.getElem?_eq_none (by omega), Array.getElem?_eq_none (by omega)])
  obtain ⟨t2, a1, b1⟩ := g'.2 T'.heap (locs ++ L) la ⟨hX1, by rw [e1]; exact hP1⟩ hS1 hl T' rfl X'
  exact ⟨t2, stp t2 a1, b1⟩
end GL

