
/-! ===== methods that make cells, with an answer of their own ===== -/
/-- what goes on behind a call that makes cells -/
def cal {R O : Type} (o : Option (R × Sy)) (kk : R → Nat → Nat → Kd → Ptr → Mem → Option O) : Option O := o.bind fun r => kk r.1 r.2.1 r.2.2.1 r.2.2.2.1 r.2.2.2.2.1 r.2.2.2.2.2
/-- the same of one that may throw: what is thrown goes on to the caller -/
def thr {R R' : Type} (o : Option ((Nat ⊕ R') × Sy)) (kk : R' → Nat → Nat → Kd → Ptr → Mem → Option ((Nat ⊕ R) × Sy)) : Option ((Nat ⊕ R) × Sy) := o.bind fun r => match r.1 with
  | .inl a => some (.inl a, r.2)
  | .inr v => kk v r.2.1 r.2.2.1 r.2.2.2.1 r.2.2.2.2.1 r.2.2.2.2.2
theorem cal_some {R O : Type} {v : R} {sz sl : Nat} {kd : Kd} {P : Ptr} {I : Mem} {kk : R → Nat → Nat → Kd → Ptr → Mem → Option O} : cal (some (v, sz, sl, kd, P, I)) kk = kk v sz sl kd P I := rfl
theorem thr_inr {R R' : Type} {v : R'} {sz sl : Nat} {kd : Kd} {P : Ptr} {I : Mem} {kk : R' → Nat → Nat → Kd → Ptr → Mem → Option ((Nat ⊕ R) × Sy)} : thr (some (.inr v, sz, sl, kd, P, I)) kk = kk v sz sl kd P I := rfl
theorem thr_inl {R R' : Type} {a : Nat} {σ : Sy} {kk : R' → Nat → Nat → Kd → Ptr → Mem → Option ((Nat ⊕ R) × Sy)} : thr (some (.inl a, σ)) kk = some (.inl a, σ) := rfl
def CtB (cs : Cs) (z : Nat) (y : MethodName) (cc : ByteArray) (nL : Nat) (ret : Option FieldType) (fr lo : Nat) (vals : List Value) (σ : Sy) {R : Type} (fv : R → Option Value) (o : Option (R × Sy)) : Prop := CtA cs z y cc nL ret fr lo vals σ (fun r : R × Sy => (fv r.1, r.2)) o
/-- the counters never fall -/
def moB {R : Type} (sz sl : Nat) (o : Option (R × Sy)) : Option (R × Sy) := o.bind fun r => if sz ≤ r.2.1 ∧ sl ≤ r.2.2.1 then some r else none
theorem CtB.ofM {cs : Cs} {z : Nat} {y : MethodName} {cc : ByteArray} {nL : Nat} {ret : Option FieldType} {fr lo : Nat} {vals : List Value} {sz sl : Nat} {kd : Kd} {P : Ptr} {I : Mem} {R : Type} {fv : R → Option Value} {o : Option (R × Sy)} (own : String)
    (hy : plainName y.cls = true) (hyc : y.cls = own) (hlen : (lg_sl vals).length ≤ nL)
    (h : ∀ (l : Launch) (D : va_G) (p : Program) (e : Env) (s : State) (m : MethodId) (args : Array Value) (below : List Frame) (meth : Method) (c : Code), l.stackTraces = false → Shp z kd → CallFix p m c cc nL s args lw_all own → meth.sig.returnType = ret → meth.locks = false → meth.name = y.name → xK D cs z s →
      Gx p l e fr lo s m args below meth c nL (sz, sl) (sz, sl) D cs z sz kd 0 (lv_args 0 vals) [] (P, I) (yq D cs z (sz, sl) s args below (fun r : R × Sy => (fv r.1, r.2))) o) : CtB cs z y cc nL ret fr lo vals (sz, sl, kd, P, I) fv (moB sz sl o) := CtA.ofM own hy hyc hlen h


/-! ===== contracts of methods that throw a Fault ===== -/
def ePost {R : Type} (D : va_G) (cs : Cs) (z : Nat) (fv : R → Option Value) (r : (Nat ⊕ R) × Sy) : Array Value → State → Outcome → State → Prop := fun _ st oc t => (∃ v, r.1 = .inr v ∧ oc = .returned (fv v)) ∧ yRep D cs z r.2 t.heap ∧ va_F (xA z) st t
def eX {R : Type} (D : va_G) (cs : Cs) (z : Nat) (r : (Nat ⊕ R) × Sy) : String → Addr → State → State → Prop := fun E q st t => r.1 = .inl q ∧ E = "GingerRents$Fault" ∧ yRep D cs z r.2 t.heap ∧ va_F (xA z) st t
def eq_ {R : Type} (D : va_G) (cs : Cs) (z : Nat) (c0 : Nat × Nat) (s : State) (args : Array Value) (below : List Frame) (fv : R → Option Value) : (Nat ⊕ R) × Sy → En := fun r => ((r.2.1, r.2.2.1), vy_MQ below (ePost D cs z fv r) (eX D cs z r) args s (r.2.1 - c0.1) (r.2.2.1 - c0.2) (xA z))
def CtE (cs : Cs) (z : Nat) (y : MethodName) (cc : ByteArray) (nL : Nat) (ret : Option FieldType) (fr lo : Nat) (vals : List Value) (σ : Sy) {R : Type} (fv : R → Option Value) (o : Option ((Nat ⊕ R) × Sy)) : Prop :=
  ∀ (l : Launch) (D : va_G), l.stackTraces = false → Shp z σ.2.2.1 → ∀ r, o = some r → (σ.1 ≤ r.2.1 ∧ σ.2.1 ≤ r.2.2.1) ∧
    vy_Met l y (ws_ y cc nL ret) ({ frames := fr, cells := r.2.1 - σ.1, slots := r.2.2.1 - σ.2.1, locals := lo }) (va_Pc vals (yPre D cs z σ)) (ePost D cs z fv r) (eX D cs z r) (r.2.1 - σ.1) (r.2.2.1 - σ.2.1) (xA z)
def moE {R : Type} (sz sl : Nat) (o : Option ((Nat ⊕ R) × Sy)) : Option ((Nat ⊕ R) × Sy) := o.bind fun r => if sz ≤ r.2.1 ∧ sl ≤ r.2.2.1 then some r else none
theorem moE_some {R : Type} {sz sl : Nat} {o : Option ((Nat ⊕ R) × Sy)} {r : (Nat ⊕ R) × Sy} (h : moE sz sl o = some r) : o = some r ∧ sz ≤ r.2.1 ∧ sl ≤ r.2.2.1 := by
  unfold moE at h
  obtain ⟨r', h1, h2⟩ := Option.bind_eq_some_iff.mp h
  split at h2
  · next hm => cases h2; exact ⟨h1, hm⟩
  · cases h2
theorem CtE.ofM {cs : Cs} {z : Nat} {y : MethodName} {cc : ByteArray} {nL : Nat} {ret : Option FieldType} {fr lo : Nat} {vals : List Value} {sz sl : Nat} {kd : Kd} {P : Ptr} {I : Mem} {R : Type} {fv : R → Option Value} {o : Option ((Nat ⊕ R) × Sy)} (own : String)
    (hy : plainName y.cls = true) (hyc : y.cls = own) (hlen : (lg_sl vals).length ≤ nL)
    (h : ∀ (l : Launch) (D : va_G) (p : Program) (e : Env) (s : State) (m : MethodId) (args : Array Value) (below : List Frame) (meth : Method) (c : Code), l.stackTraces = false → Shp z kd → CallFix p m c cc nL s args lw_all own → meth.sig.returnType = ret → meth.locks = false → (∀ x ∈ c.exceptionTable.toList, False) → xK D cs z s →
      Gx p l e fr lo s m args below meth c nL (sz, sl) (sz, sl) D cs z sz kd 0 (lv_args 0 vals) [] (P, I) (eq_ D cs z (sz, sl) s args below fv) o) : CtE cs z y cc nL ret fr lo vals (sz, sl, kd, P, I) fv (moE sz sl o) := by
  intro l D hlt hsh r hr
  obtain ⟨ho, hm⟩ := moE_some hr
  refine ⟨hm, vy_ofW (cc := cc) (maxL := nL) (ret := ret) hy rfl ?_⟩
  intro p e s m args below meth c s₁ B hml hxt hv
  obtain ⟨rfl, hP, hK⟩ := hv
  have hts := atoms_spec (ws := ws_ y cc nL ret) B.pre
  have hts : ∀ w ∈ lw_all, w.before _ s = true := fun w h => hts w (List.mem_cons_of_mem _ h)
  have hown : s.vm.findClass own = some m.cls := by rw [← hyc]; exact findClass_of_methodNamed B.named
  have hl := lv_entry vals (n := nL) hlen
  rw [lg_entry_eq]
  have w := (h l D p e s m _ below meth c hlt hsh ⟨B.exec, B.bytes, hml, hown, hts⟩ B.returns B.notSynchronized hxt hK r ho (Nat.le_refl _) (Nat.le_refl _)).2 s.heap [] _ hP va_S.rf hl
  dsimp only at w
  rw [Nat.sub_self, Nat.sub_self] at w
  exact w
section GER
variable {p : Program} {l : Launch} {e : Env} {fr lo : Nat} {s : State} {m : MethodId} {args : Array Value} {below : List Frame} {meth : Method} {c : Code} {nL : Nat} {c0 k0 : Nat × Nat} {D : va_G} {cs : Cs} {z sz : Nat} {kd : Kd} {O : Type} {pc : Nat} {ls : List (Nat × Value)} {st : List Value} {P : Ptr} {I : Mem} {σ : Ptr × Mem} {q : O → En} {o : Option O} {cc : ByteArray} {own : String}
theorem ge_iret {sl : Nat} (K : CallFix p m c cc nL s args lw_all own) (hr : meth.sig.returnType = some .int) (hlk : meth.locks = false) {R : Type} {v : Int32} {r : R} {fv : R → Option Value} (hd : decode cc pc = .ok (.ireturn, 1)) (hfv : fv r = some (.int v)) : Gx p l e fr lo s m args below meth c nL c0 (sz, sl) D cs z sz kd pc ls [.int v] (P, I) (eq_ D cs z c0 s args below fv) (some (.inr r, sz, sl, kd, P, I)) := by
  intro out ho h1 h2
  cases ho
  exact ⟨⟨Nat.le_refl _, Nat.le_refl _⟩, fun H locs la hR hS hl => vy_ret (W.iret K.1 K.2.1 hr (fun t ht hW => ⟨⟨_, rfl, by rw [hfv]⟩, by rw [ht]; exact hR, hS.F ht⟩) hS.2.2 hd hlk)⟩
theorem ge_vret {sl : Nat} (K : CallFix p m c cc nL s args lw_all own) (hr : meth.sig.returnType = none) (hlk : meth.locks = false) {R : Type} {r : R} {fv : R → Option Value} (hd : decode cc pc = .ok (.return_, 1)) (hfv : fv r = none) : Gx p l e fr lo s m args below meth c nL c0 (sz, sl) D cs z sz kd pc ls [] (P, I) (eq_ D cs z c0 s args below fv) (some (.inr r, sz, sl, kd, P, I)) := by
  intro out ho h1 h2
  cases ho
  exact ⟨⟨Nat.le_refl _, Nat.le_refl _⟩, fun H locs la hR hS hl => vy_ret (W.vret K.1 K.2.1 hr (fun t ht hW => ⟨⟨_, rfl, by rw [hfv]⟩, by rw [ht]; exact hR, hS.F ht⟩) hS.2.2 hd hlk)⟩
theorem ge_aret {sl : Nat} (K : CallFix p m c cc nL s args lw_all own) {rt : FieldType} (hr : meth.sig.returnType = some rt) (hrt : (∃ n, rt = .object n) ∨ ∃ t, rt = .array t) (hlk : meth.locks = false) {R : Type} {v : Nat} {r : R} {fv : R → Option Value} (hd : decode cc pc = .ok (.areturn, 1)) (hfv : fv r = some (.ref v)) : Gx p l e fr lo s m args below meth c nL c0 (sz, sl) D cs z sz kd pc ls [.ref v] (P, I) (eq_ D cs z c0 s args below fv) (some (.inr r, sz, sl, kd, P, I)) := by
  intro out ho h1 h2
  cases ho
  exact ⟨⟨Nat.le_refl _, Nat.le_refl _⟩, fun H locs la hR hS hl => vy_ret (W.aret K.1 K.2.1 hr hrt (Or.inr ⟨_, rfl⟩) (fun t ht hW => ⟨⟨_, rfl, by rw [hfv]⟩, by rw [ht]; exact hR, hS.F ht⟩) hS.2.2 hd hlk)⟩
theorem ga_zret {sl : Nat} (K : CallFix p m c cc nL s args lw_all own) (hr : meth.sig.returnType = some .boolean) {v : Int32} {b : Bool} (hlk : meth.locks = false) {r : O} {fin : O → Option Value × Sy} (hd : decode cc pc = .ok (.ireturn, 1)) (hv : v = bI b) (hfin : fin r = (some (.int (bI b)), (sz, sl, kd, P, I))) : Gx p l e fr lo s m args below meth c nL c0 (sz, sl) D cs z sz kd pc ls [.int v] (P, I) (yq D cs z c0 s args below fin) (some r) := by
  intro out ho h1 h2
  cases ho
  subst hv
  refine ⟨by unfold yq; rw [hfin]; exact ⟨Nat.le_refl _, Nat.le_refl _⟩, fun H locs la hR hS hl => ?_⟩
  unfold yq
  rw [hfin]
  exact W.zret K.1 K.2.1 hr (by cases b <;> rfl) (fun t ht hW => ⟨⟨rfl, by rw [ht]; exact hR⟩, hS.F ht⟩) hS.2.2 hd hlk
theorem ga_arret {sl : Nat} (K : CallFix p m c cc nL s args lw_all own) {rt : FieldType} (hr : meth.sig.returnType = some rt) (hrt : (∃ n, rt = .object n) ∨ ∃ t, rt = .array t) {v : Nat} (hlk : meth.locks = false) {r : O} {fin : O → Option Value × Sy} (hd : decode cc pc = .ok (.areturn, 1)) (hfin : fin r = (some (.ref v), (sz, sl, kd, P, I))) : Gx p l e fr lo s m args below meth c nL c0 (sz, sl) D cs z sz kd pc ls [.ref v] (P, I) (yq D cs z c0 s args below fin) (some r) := by
  intro out ho h1 h2
  cases ho
  refine ⟨by unfold yq; rw [hfin]; exact ⟨Nat.le_refl _, Nat.le_refl _⟩, fun H locs la hR hS hl => ?_⟩
  unfold yq
  rw [hfin]
  exact W.aret K.1 K.2.1 hr hrt (Or.inr ⟨_, rfl⟩) (fun t ht hW => ⟨⟨rfl, by rw [ht]; exact hR⟩, hS.F ht⟩) hS.2.2 hd hlk
/-- a Fault thrown -/
theorem ge_athrow {sl : Nat} (K : CallFix p m c cc nL s args lw_all own) (hK : xK D cs z s) (hxt : ∀ x ∈ c.exceptionTable.toList, False) (hlk : meth.locks = false) {R : Type} {a : Nat} {fv : R → Option Value} (hka : kd a = (6, 0, 0)) (hd : decode cc pc = .ok (.athrow, 1)) : Gx p l e fr lo s m args below meth c nL c0 (sz, sl) D cs z sz kd pc ls (.ref a :: st) (P, I) (eq_ D cs z c0 s args below fv) (some (.inl a, sz, sl, kd, P, I)) := by
  intro out ho h1 h2
  cases ho
  refine ⟨⟨Nat.le_refl _, Nat.le_refl _⟩, fun H locs la hR hS hl => ?_⟩
  have hat := hR.2 a (by rw [hka]; exact Nat.le_of_ble_eq_true rfl)
  rw [hka] at hat
  obtain ⟨r', hr', cellV, g1, g2, g3, -⟩ := hat
  exact vx_athrow K.1 K.2.1 hd (vy_out (E := "GingerRents$Fault") (ce := cellV) (fun x hx => (hxt x hx).elim) hlk g1 g3 (by rw [g2]; exact (hK.1.1 6 _ rfl).2.1) (fun t ht hW => ⟨rfl, rfl, by rw [ht]; exact hR, hS.F ht⟩) hS.2.2 (Nat.le_refl _) (Nat.le_refl _))
/-- a call of a method that may throw, from one without handlers -/
theorem ge_callV (K : CallFix p m c cc nL s args lw_all own) (hK : xK D cs z s) (hsh : Shp z kd) (hlt : l.stackTraces = false) (hxt : ∀ x ∈ c.exceptionTable.toList, False) (hlk : meth.locks = false) {R R' : Type} {fv : R → Option Value} {sl : Nat} {y : MethodName} {bytes : ByteArray} {maxL index a ci : Nat} {C : String} {T : u_T} {N : Nat} {t : Nat × Nat × Nat} {fs : List Value} {ret : Option FieldType} {fr' lo' : Nat} {vals stk : List Value} {fv' : R' → Option Value} {o' : Option ((Nat ⊕ R') × Sy)} {kk : R' → Nat → Nat → Kd → Ptr → Mem → Option ((Nat ⊕ R) × Sy)} (n : Nat) (hC : CtE cs z y bytes maxL ret fr' lo' (.ref a :: vals) (sz, sl, kd, P, I) fv' o') (hw : GoodIn lw_all (wsV own index C y (ws_ y bytes maxL ret)))
    (hdd : y.cls = C ∧ y.cls ≠ "java/lang/invoke/MethodHandle" ∧ y.cls ≠ "java/lang/invoke/VarHandle" ∧ (parseMethodDescriptor y.desc).map (fun d => d.parameters.length) = some vals.length) (hka : kd a = t) (he : cellE cs z t a (P a) (I a) = .inr (ci, fs)) (h90 : t.1 < 90) (hc : clX[ci]? = some (C, T, N)) (hroom : fr' + 1 ≤ fr ∧ 8 + (maxL + 11) + lo' ≤ lo) (hstk : stk = vals.reverse ++ .ref a :: st) (hcat : (st.map fun v => v.category).sum ≤ 8)
    (hd : decode cc pc = .ok (.invokevirtual index, 3)) (hn : pc + 3 = n) (g : ∀ v sz1 sl1 kd1 P1 I1, o' = some (.inr v, sz1, sl1, kd1, P1, I1) → Gx p l e fr lo s m args below meth c nL c0 (sz1, sl1) D cs z sz1 kd1 n ls ((fv' v).toList ++ st) (P1, I1) (eq_ D cs z c0 s args below fv) (kk v sz1 sl1 kd1 P1 I1)) : Gx p l e fr lo s m args below meth c nL c0 (sz, sl) D cs z sz kd pc ls stk (P, I) (eq_ D cs z c0 s args below fv) (thr o' kk) := by
  subst hn
  subst hstk
  intro out ho h1 h2
  obtain ⟨r, hr, hk⟩ := Option.bind_eq_some_iff.mp ho
  obtain ⟨⟨mm1, mm2⟩, hMet⟩ := hC l D hlt hsh r hr
  obtain ⟨rv, sz1, sl1, kd1, P1, I1⟩ := r
  have mm1 : sz ≤ sz1 := mm1
  have mm2 : sl ≤ sl1 := mm2
  have h1' : c0.1 ≤ sz := h1
  have h2' : c0.2 ≤ sl := h2
  have nn : sz1 ≤ out.2.1 ∧ sl1 ≤ out.2.2.1 := by
    cases rv with
    | inl q => cases hk; exact ⟨Nat.le_refl _, Nat.le_refl _⟩
    | inr v => exact (g v sz1 sl1 kd1 P1 I1 hr out hk (Nat.le_trans h1' mm1) (Nat.le_trans h2' mm2)).1
  obtain ⟨n1, n2⟩ := nn
  refine ⟨⟨Nat.le_trans mm1 n1, Nat.le_trans mm2 n2⟩, fun H locs la hR hS hl => ?_⟩
  have hat := hR.2 a (by rw [hka]; exact h90)
  rw [hka, he] at hat
  have hP : va_P D clX [(a, .inr (ci, fs))] H := fun k q hk => by
    cases k with
    | zero => cases hk; exact hat
    | succ k => simp at hk
  have c1 : sz - c0.1 + (sz1 - sz) = sz1 - c0.1 := by omega
  have c2 : sl - c0.2 + (sl1 - sl) = sl1 - c0.2 := by omega
  have hkeep : ∀ {st₀ t T' : State} {L : List Loc}, st₀.heap = H → T'.heap = t.heap → (∀ q ∈ L, xA z q.base) → va_F (xA z) st₀ t → va_S (xA z) s.heap T'.heap (locs ++ L) := by
    intro st₀ t T' L h0 e1 hL hF
    have hz : H.size ≤ t.heap.size := by rw [← h0]; exact hF.1
    refine ⟨by rw [e1]; exact Nat.le_trans hS.1 hz, fun x hx hxA => ?_, fun z hzz => ?_⟩
    · rw [e1, hF.2 x (by rw [h0]; exact Nat.lt_of_lt_of_le hx hS.1) hxA, h0]
      exact hS.2.1 x hx hxA
    · rcases List.mem_append.mp hzz with h | h
      · exact hS.2.2 z h
      · exact hL z h
  intro T0 hT X
  rcases vy_runV (As := vals) (rest := st) (g := F0 m pc la (vals.reverse ++ .ref a :: st)) K hMet (cwV vals.length K.2.2.2.2 hw rfl rfl rfl hdd hroom) ⟨fun a U g mk q => by obtain ⟨q0, q1, q2⟩ := q; exact ⟨q0, q1, xK.same rfl rfl q2⟩, va_recv hK.1 hP (ci := ci) (q0 := 0) hc rfl, fun U hU hW => ⟨rfl, by rw [hU]; exact hR, xK.warm hW hS hU hK⟩⟩ rfl rfl hl.1 rfl (lv_room hcat) hd ⟨by show sz - c0.1 + (sz1 - sz) ≤ out.2.1 - c0.1; omega, by show sl - c0.2 + (sl1 - sl) ≤ out.2.2.1 - c0.2; omega⟩ T0 hT X with ⟨v, st₀, t, T', L, h0, X', hL, e1, e2, ⟨⟨v', hv, hv2⟩, hP1, hF⟩, stp⟩ | ⟨q, st₀, t, T', L, E, ce, h0, X', hL, e1, e2, ⟨hv, hE, hP1, hF⟩, hce, hcv, hcl, stp⟩
  · dsimp only at hv
    subst hv
    cases hv2
    have g' := g v' sz1 sl1 kd1 P1 I1 hr out hk (Nat.le_trans h1' mm1) (Nat.le_trans h2' mm2)
    dsimp only at X'
    rw [c1, c2] at X'
    obtain ⟨t2, a1, b1⟩ := g'.2 T'.heap (locs ++ L) la (by rw [e1]; exact hP1) (hkeep h0 e1 hL hF) hl T' rfl X'
    exact ⟨t2, stp t2 a1, b1⟩
  · dsimp only at hv
    subst hv
    cases hk
    dsimp only at X'
    rw [c1, c2] at X'
    have hS1 := hkeep h0 e1 hL hF
    obtain ⟨t2, a1, b1⟩ := vy_out (p := p) (l := l) (e := e) (s := s) (m := m) (args := args) (below := below) (meth := meth) (c := c) (H := T'.heap) (locs := locs ++ L) (ls := la) (rest := st) (pc := pc) (E := E) (ce := ce) (q := q) (free := xA z) (Qc := ePost D cs z fv (.inl q, sz1, sl1, kd1, P1, I1)) (XC := eX D cs z ((.inl q, sz1, sl1, kd1, P1, I1) : (Nat ⊕ R) × Sy)) (fun x hx => (hxt x hx).elim) hlk (by rw [e1]; exact hce) hcv hcl (fun t9 ht9 hW9 => ⟨rfl, hE, by rw [ht9, e1]; exact hP1, hS1.F ht9⟩) hS1.2.2 (Nat.le_refl _) (Nat.le_refl _) T' rfl X'
    exact ⟨t2, stp.trans a1, b1⟩

theorem gb_callV (K : CallFix p m c cc nL s args lw_all own) (hK : xK D cs z s) (hsh : Shp z kd) (hlt : l.stackTraces = false) {R' : Type} {sl : Nat} {y : MethodName} {bytes : ByteArray} {maxL index a ci : Nat} {C : String} {T : u_T} {N : Nat} {t : Nat × Nat × Nat} {fs : List Value} {ret : Option FieldType} {fr' lo' : Nat} {vals stk : List Value} {fv' : R' → Option Value} {o' : Option (R' × Sy)} {kk : R' → Nat → Nat → Kd → Ptr → Mem → Option O} (n : Nat) (hC : CtB cs z y bytes maxL ret fr' lo' (.ref a :: vals) (sz, sl, kd, P, I) fv' o') (hw : GoodIn lw_all (wsV own index C y (ws_ y bytes maxL ret)))
    (hdd : y.cls = C ∧ y.cls ≠ "java/lang/invoke/MethodHandle" ∧ y.cls ≠ "java/lang/invoke/VarHandle" ∧ (parseMethodDescriptor y.desc).map (fun d => d.parameters.length) = some vals.length) (hka : kd a = t) (he : cellE cs z t a (P a) (I a) = .inr (ci, fs)) (h90 : t.1 < 90) (hc : clX[ci]? = some (C, T, N)) (hroom : fr' + 1 ≤ fr ∧ 8 + (maxL + 11) + lo' ≤ lo) (hstk : stk = vals.reverse ++ .ref a :: st) (hcat : (st.map fun v => v.category).sum ≤ 8)
    (hd : decode cc pc = .ok (.invokevirtual index, 3)) (hn : pc + 3 = n) (g : ∀ v sz1 sl1 kd1 P1 I1, o' = some (v, sz1, sl1, kd1, P1, I1) → Gx p l e fr lo s m args below meth c nL c0 (sz1, sl1) D cs z sz1 kd1 n ls ((fv' v).toList ++ st) (P1, I1) q (kk v sz1 sl1 kd1 P1 I1)) : Gx p l e fr lo s m args below meth c nL c0 (sz, sl) D cs z sz kd pc ls stk (P, I) q (cal o' kk) :=
  ga_callV K hK hsh hlt n hC hw hdd hka he h90 hc hroom hstk hcat hd hn (fun r hr => g r.1 r.2.1 r.2.2.1 r.2.2.2.1 r.2.2.2.2.1 r.2.2.2.2.2 hr)
theorem gb_callI (K : CallFix p m c cc nL s args lw_all own) (hK : xK D cs z s) (hsh : Shp z kd) (hlt : l.stackTraces = false) {R' : Type} {sl : Nat} {y : MethodName} {bytes : ByteArray} {maxL index a : Nat} {fr' lo' : Nat} {vals stk : List Value} {fv' : R' → Option Value} {o' : Option (R' × Sy)} {kk : R' → Nat → Nat → Kd → Ptr → Mem → Option O} (n : Nat) (hC : CtB cs z y bytes maxL none fr' lo' (.ref a :: vals) (sz, sl, kd, P, I) fv' o') (hw : GoodIn lw_all (ws_ y bytes maxL none)) (hini : Cond.initialized y.cls ∈ lw_all) (hlink : Cond.methodLink own index y ∈ lw_all) (hins : Cond.instanceMethod y ∈ lw_all) (hy1 : y.name = "<init>")
    (hdd : y.cls ≠ "java/lang/invoke/MethodHandle" ∧ y.cls ≠ "java/lang/invoke/VarHandle" ∧ (parseMethodDescriptor y.desc).map (fun d => d.parameters.length) = some vals.length) (hroom : fr' + 1 ≤ fr ∧ 8 + (maxL + 11) + lo' ≤ lo) (hstk : stk = vals.reverse ++ .ref a :: st) (hcat : (st.map fun v => v.category).sum ≤ 8)
    (hd : decode cc pc = .ok (.invokespecial index, 3)) (hn : pc + 3 = n) (g : ∀ v sz1 sl1 kd1 P1 I1, o' = some (v, sz1, sl1, kd1, P1, I1) → Gx p l e fr lo s m args below meth c nL c0 (sz1, sl1) D cs z sz1 kd1 n ls ((fv' v).toList ++ st) (P1, I1) q (kk v sz1 sl1 kd1 P1 I1)) : Gx p l e fr lo s m args below meth c nL c0 (sz, sl) D cs z sz kd pc ls stk (P, I) q (cal o' kk) :=
  ga_callI K hK hsh hlt n hC hw hini hlink hins hy1 hdd hroom hstk hcat hd hn (fun r hr => g r.1 r.2.1 r.2.2.1 r.2.2.2.1 r.2.2.2.2.1 r.2.2.2.2.2 hr)
theorem gb_callIN (K : CallFix p m c cc nL s args lw_all own) (hK : xK D cs z s) (hsh : Shp z kd) (hlt : l.stackTraces = false) {R' : Type} {sl : Nat} {y : MethodName} {bytes : ByteArray} {maxL index a : Nat} {fr' lo' : Nat} {vals stk : List Value} {fv' : R' → Option Value} {o' : Option (R' × Sy)} {kk : R' → Nat → Nat → Kd → Ptr → Mem → Option O} (n : Nat) (hC : CtB cs z y bytes maxL none fr' lo' (.ref a :: vals) (sz, sl, kd, P, I) fv' o') (hw : GoodIn lw_all (ws_ y bytes maxL none)) (hini : Cond.initialized y.cls ∈ lw_all) (hlink : va_Nw (.methodLinkNest own index y "GingerRents") s) (hins : Cond.instanceMethod y ∈ lw_all) (hy1 : y.name = "<init>")
    (hdd : y.cls ≠ "java/lang/invoke/MethodHandle" ∧ y.cls ≠ "java/lang/invoke/VarHandle" ∧ (parseMethodDescriptor y.desc).map (fun d => d.parameters.length) = some vals.length) (hroom : fr' + 1 ≤ fr ∧ 8 + (maxL + 11) + lo' ≤ lo) (hstk : stk = vals.reverse ++ .ref a :: st) (hcat : (st.map fun v => v.category).sum ≤ 8)
    (hd : decode cc pc = .ok (.invokespecial index, 3)) (hn : pc + 3 = n) (g : ∀ v sz1 sl1 kd1 P1 I1, o' = some (v, sz1, sl1, kd1, P1, I1) → Gx p l e fr lo s m args below meth c nL c0 (sz1, sl1) D cs z sz1 kd1 n ls ((fv' v).toList ++ st) (P1, I1) q (kk v sz1 sl1 kd1 P1 I1)) : Gx p l e fr lo s m args below meth c nL c0 (sz, sl) D cs z sz kd pc ls stk (P, I) q (cal o' kk) :=
  ga_callIN K hK hsh hlt n hC hw hini hlink hins hy1 hdd hroom hstk hcat hd hn (fun r hr => g r.1 r.2.1 r.2.2.1 r.2.2.2.1 r.2.2.2.2.1 r.2.2.2.2.2 hr)
/-- a static method that makes cells -/
theorem gb_callS (K : CallFix p m c cc nL s args lw_all own) (hK : xK D cs z s) (hsh : Shp z kd) (hlt : l.stackTraces = false) {R' : Type} {sl : Nat} {y : MethodName} {bytes : ByteArray} {maxL index : Nat} {ret : Option FieldType} {fr' lo' : Nat} {vals stk : List Value} {fv' : R' → Option Value} {o' : Option (R' × Sy)} {kk : R' → Nat → Nat → Kd → Ptr → Mem → Option O} (n : Nat) (hC : CtB cs z y bytes maxL ret fr' lo' vals (sz, sl, kd, P, I) fv' o') (hw : GoodIn lw_all (va_wsS own index y (ws_ y bytes maxL ret)))
    (hdd : y.cls ≠ "java/lang/invoke/MethodHandle" ∧ y.cls ≠ "java/lang/invoke/VarHandle" ∧ (parseMethodDescriptor y.desc).map (fun d => d.parameters.length) = some vals.length) (hroom : fr' + 1 ≤ fr ∧ 8 + (maxL + 11) + lo' ≤ lo) (hstk : stk = vals.reverse ++ st) (hcat : (st.map fun v => v.category).sum ≤ 8)
    (hd : decode cc pc = .ok (.invokestatic index, 3)) (hn : pc + 3 = n) (g : ∀ v sz1 sl1 kd1 P1 I1, o' = some (v, sz1, sl1, kd1, P1, I1) → Gx p l e fr lo s m args below meth c nL c0 (sz1, sl1) D cs z sz1 kd1 n ls ((fv' v).toList ++ st) (P1, I1) q (kk v sz1 sl1 kd1 P1 I1)) : Gx p l e fr lo s m args below meth c nL c0 (sz, sl) D cs z sz kd pc ls stk (P, I) q (cal o' kk) := by
  subst hn
  subst hstk
  intro out ho h1 h2
  obtain ⟨r, hr, hk⟩ := Option.bind_eq_some_iff.mp ho
  obtain ⟨⟨mm1, mm2⟩, hMet⟩ := hC l D hlt hsh r hr
  obtain ⟨rv, sz1, sl1, kd1, P1, I1⟩ := r
  have mm1 : sz ≤ sz1 := mm1
  have mm2 : sl ≤ sl1 := mm2
  have h1' : c0.1 ≤ sz := h1
  have h2' : c0.2 ≤ sl := h2
  have g' := g rv sz1 sl1 kd1 P1 I1 hr out hk (Nat.le_trans h1' mm1) (Nat.le_trans h2' mm2)
  have n1 : sz1 ≤ (q out).1.1 := g'.1.1
  have n2 : sl1 ≤ (q out).1.2 := g'.1.2
  refine ⟨⟨Nat.le_trans mm1 n1, Nat.le_trans mm2 n2⟩, fun H locs la hR hS hl => ?_⟩
  intro T0 hT X
  obtain ⟨v, st₀, t, T', L, h0, X', hL, e1, e2, ⟨⟨hv, hP1⟩, hF⟩, stp⟩ := va_runS (As := vals) (rest := st) K hMet (va_cwS vals.length K.2.2.2.2 hw rfl rfl rfl hdd hroom) ⟨fun a U g mk q => by obtain ⟨q0, q1, q2⟩ := q; exact ⟨q0, q1, xK.same rfl rfl q2⟩, fun U hU hW => ⟨rfl, by rw [hU]; exact hR, xK.warm hW hS hU hK⟩⟩ rfl rfl hl.1 rfl (lv_room hcat) hd ⟨by show sz - c0.1 + (sz1 - sz) ≤ (q out).1.1 - c0.1; omega, by show sl - c0.2 + (sl1 - sl) ≤ (q out).1.2 - c0.2; omega⟩ T0 hT X
  cases hv
  have hz : H.size ≤ t.heap.size := by rw [← h0]; exact hF.1
  have hS1 : va_S (xA z) s.heap T'.heap (locs ++ L) := by
    refine ⟨by rw [e1]; exact Nat.le_trans hS.1 hz, fun x hx hxA => ?_, fun z hzz => ?_⟩
    · rw [e1, hF.2 x (by rw [h0]; exact Nat.lt_of_lt_of_le hx hS.1) hxA, h0]
      exact hS.2.1 x hx hxA
    · rcases List.mem_append.mp hzz with h | h
      · exact hS.2.2 z h
      · exact hL z h
  have c1 : sz - c0.1 + (sz1 - sz) = sz1 - c0.1 := by omega
  have c2 : sl - c0.2 + (sl1 - sl) = sl1 - c0.2 := by omega
  dsimp only at X'
  rw [c1, c2] at X'
  obtain ⟨t2, a1, b1⟩ := g'.2 T'.heap (locs ++ L) la (by rw [e1]; exact hP1) hS1 hl T' rfl X'
  exact ⟨t2, stp t2 a1, b1⟩
end GER


/-! ===== kinds told anew, references in locals, lists' arrays ===== -/
section GCV
variable {p : Program} {l : Launch} {e : Env} {fr lo : Nat} {s : State} {m : MethodId} {args : Array Value} {below : List Frame} {meth : Method} {c : Code} {nL : Nat} {c0 k0 : Nat × Nat} {D : va_G} {cs : Cs} {z sz : Nat} {kd : Kd} {O : Type} {pc : Nat} {ls : List (Nat × Value)} {st : List Value} {P : Ptr} {I : Mem} {σ : Ptr × Mem} {q : O → En} {o : Option O} {cc : ByteArray} {own : String}
/-- the cells stay, their kinds are told anew -/
def cvOk (cs : Cs) (z : Nat) (kd kd1 : Kd) (P : Ptr) (I : Mem) : Prop := ∀ a, (kd1 a).1 < 90 → (kd a).1 < 90 ∧ cellE cs z (kd1 a) a (P a) (I a) = cellE cs z (kd a) a (P a) (I a)
theorem g_cv {sl : Nat} {kd1 : Kd} (hcv : cvOk cs z kd kd1 P I) (g : Gx p l e fr lo s m args below meth c nL c0 (sz, sl) D cs z sz kd1 pc ls st (P, I) q o) : Gx p l e fr lo s m args below meth c nL c0 (sz, sl) D cs z sz kd pc ls st (P, I) q o := by
  intro out ho h1 h2
  have g' := g out ho h1 h2
  refine ⟨g'.1, fun H locs la hR hS hl => g'.2 H locs la ⟨hR.1, fun a ha => ?_⟩ hS hl⟩
  have := hcv a ha
  rw [this.2]
  exact hR.2 a this.1
theorem g_aloadnq {S : Type} {Rep : S → Heap → Prop} {cnt : S → Nat × Nat} {A : Nat → Prop} {τ : S} {Ts : List Cond} (K : CallFix p m c cc nL s args Ts own) {f : Fin 4} {i : Nat} {x : Option Nat} (j : Nat) (hf : (f : Nat) = i) (hj : ls[j]? = some (i, va_rf x)) (n : Nat) (hd : decode cc pc = .ok (.aload_n f, 1)) (hn : pc + 1 = n) (g : G p l e fr lo s m args below meth c nL c0 Rep cnt A n ls (va_rf x :: st) τ q o) : G p l e fr lo s m args below meth c nL c0 Rep cnt A pc ls st τ q o := by
  subst hn
  cases x with
  | none => exact G.map (fun R H locs ce sl Q la hl k => lv_aload_nN K.1 K.2.1 hd hf (lv_at hl j hj) (k la hl)) g
  | some x => exact G.map (fun R H locs ce sl Q la hl k => lv_aload_n K.1 K.2.1 hd hf (lv_at hl j hj) (k la hl)) g
theorem g_aloadq {S : Type} {Rep : S → Heap → Prop} {cnt : S → Nat × Nat} {A : Nat → Prop} {τ : S} {Ts : List Cond} (K : CallFix p m c cc nL s args Ts own) {i : Nat} {x : Option Nat} (j : Nat) (hj : ls[j]? = some (i, va_rf x)) (n : Nat) (hd : decode cc pc = .ok (.aload i, 2)) (hn : pc + 2 = n) (g : G p l e fr lo s m args below meth c nL c0 Rep cnt A n ls (va_rf x :: st) τ q o) : G p l e fr lo s m args below meth c nL c0 Rep cnt A pc ls st τ q o := by
  subst hn
  cases x with
  | none => exact G.map (fun R H locs ce sl Q la hl k => lv_aloadN K.1 K.2.1 hd (lv_at hl j hj) (k la hl)) g
  | some x => exact G.map (fun R H locs ce sl Q la hl k => lv_aload K.1 K.2.1 hd (lv_at hl j hj) (k la hl)) g
theorem g_astore0 {S : Type} {Rep : S → Heap → Prop} {cnt : S → Nat × Nat} {A : Nat → Prop} {τ : S} {Ts : List Cond} (K : CallFix p m c cc nL s args Ts own) {i : Nat} (ls1 : List (Nat × Value)) (ks : List Nat) (hi : i < nL) (hk : lv_pick ((i, Value.null) :: ls.filter (fun q => !(q.1 == i) && !(q.1 + 1 == i && q.2.category == 2))) ks = ls1) (n : Nat) (hd : decode cc pc = .ok (.astore i, 2)) (hn : pc + 2 = n) (g : G p l e fr lo s m args below meth c nL c0 Rep cnt A n ls1 (st) τ q o) : G p l e fr lo s m args below meth c nL c0 Rep cnt A pc ls (.null :: st) τ q o := by
  subst hn
  exact G.map (fun R H locs ce sl Q la hl k => lv_astoreN K.1 K.2.1 hd hl hi rfl (fun la2 h2 => k la2 (lv_sub h2 ks hk))) g
theorem g_acmp_eq {S : Type} {Rep : S → Heap → Prop} {cnt : S → Nat × Nat} {A : Nat → Prop} {τ : S} {Ts : List Cond} (K : CallFix p m c cc nL s args Ts own) {x y : Nat} {off : Int} {o1 o2 : Option O} {inst : Decidable (x = y)} (n t : Nat) (hd : decode cc pc = .ok (.if_acmp .eq off, 3)) (hn : pc + 3 = n) (ht : (pc : Int) + off = (t : Int)) (gt : x = y → G p l e fr lo s m args below meth c nL c0 Rep cnt A t ls st τ q o1) (gf : ¬ x = y → G p l e fr lo s m args below meth c nL c0 Rep cnt A n ls st τ q o2) : G p l e fr lo s m args below meth c nL c0 Rep cnt A pc ls (.ref y :: .ref x :: st) τ q (@ite _ (x = y) inst o1 o2) := by
  subst hn
  intro out ho h1 h2
  by_cases hc : x = y
  · rw [if_pos hc] at ho
    have g' := gt hc out ho h1 h2
    exact ⟨g'.1, fun H locs la hR hS hl => lv_acmp_eq (rx := some x) (ry := some y) K.1 K.2.1 hd ht (fun _ => g'.2 H locs la hR hS hl) (fun h => absurd (congrArg some hc) h)⟩
  · rw [if_neg hc] at ho
    have g' := gf hc out ho h1 h2
    exact ⟨g'.1, fun H locs la hR hS hl => lv_acmp_eq (rx := some x) (ry := some y) K.1 K.2.1 hd ht (fun h => absurd (Option.some.inj h) hc) (fun _ => g'.2 H locs la hR hS hl)⟩
theorem g_acmp_ne {S : Type} {Rep : S → Heap → Prop} {cnt : S → Nat × Nat} {A : Nat → Prop} {τ : S} {Ts : List Cond} (K : CallFix p m c cc nL s args Ts own) {x y : Nat} {off : Int} {o1 o2 : Option O} {inst : Decidable (x = y)} (n t : Nat) (hd : decode cc pc = .ok (.if_acmp .ne off, 3)) (hn : pc + 3 = n) (ht : (pc : Int) + off = (t : Int)) (gf : x = y → G p l e fr lo s m args below meth c nL c0 Rep cnt A n ls st τ q o1) (gt : ¬ x = y → G p l e fr lo s m args below meth c nL c0 Rep cnt A t ls st τ q o2) : G p l e fr lo s m args below meth c nL c0 Rep cnt A pc ls (.ref y :: .ref x :: st) τ q (@ite _ (x = y) inst o1 o2) := by
  subst hn
  intro out ho h1 h2
  by_cases hc : x = y
  · rw [if_pos hc] at ho
    have g' := gf hc out ho h1 h2
    exact ⟨g'.1, fun H locs la hR hS hl => lv_acmp_ne (rx := some x) (ry := some y) K.1 K.2.1 hd ht (fun h => absurd (congrArg some hc) h) (fun _ => g'.2 H locs la hR hS hl)⟩
  · rw [if_neg hc] at ho
    have g' := gt hc out ho h1 h2
    exact ⟨g'.1, fun H locs la hR hS hl => lv_acmp_ne (rx := some x) (ry := some y) K.1 K.2.1 hd ht (fun _ => g'.2 H locs la hR hS hl) (fun h => absurd (Option.some.inj h) hc)⟩
/-- the lists' shared empty array -/
theorem ga_getE (K : CallFix p m c cc nL s args lw_all own) (hK : xK D cs z s) {index : Nat} (n : Nat) (hlink : Cond.fieldLink own index "java/util/ArrayList" "DEFAULTCAPACITY_EMPTY_ELEMENTDATA" "[Ljava/lang/Object;" ∈ lw_all) (hd : decode cc pc = .ok (.getstatic index, 3)) (hn : pc + 3 = n) (g : Gx p l e fr lo s m args below meth c nL c0 k0 D cs z sz kd n ls (.ref (cs 300) :: st) (P, I) q o) : Gx p l e fr lo s m args below meth c nL c0 k0 D cs z sz kd pc ls st (P, I) q o := by
  subst hn
  intro out ho h1 h2
  have g' := g out ho h1 h2
  exact ⟨g'.1, fun H locs la hR hS hl => va_gets K.1 K.2.1 hK.2.2.2.2.2.2.2.2.2.1 hS K.2.2.2.1 (K.2.2.2.2 _ hlink) (fun _ h => h) hd (g'.2 H locs la hR hS hl)⟩
theorem ga_lenE (K : CallFix p m c cc nL s args lw_all own) (hK : xK D cs z s) (n : Nat) (hd : decode cc pc = .ok (.arraylength, 1)) (hn : pc + 1 = n) (g : Gx p l e fr lo s m args below meth c nL c0 k0 D cs z sz kd n ls (.int (nI 0) :: st) (P, I) q o) : Gx p l e fr lo s m args below meth c nL c0 k0 D cs z sz kd pc ls (.ref (cs 300) :: st) (P, I) q o := by
  subst hn
  intro out ho h1 h2
  have g' := g out ho h1 h2
  exact ⟨g'.1, fun H locs la hR hS hl => va_tlen (v := nI 0) K.1 K.2.1 hK.2.2.2.2.2.2.2.2.2.2.1 hS rfl hd (g'.2 H locs la hR hS hl)⟩
theorem ga_leno (K : CallFix p m c cc nL s args lw_all own) (hK : xK D cs z s) {a len inn : Nat} (n : Nat) (hka : kd a = (25, len, inn)) (hd : decode cc pc = .ok (.arraylength, 1)) (hn : pc + 1 = n) (g : Gx p l e fr lo s m args below meth c nL c0 k0 D cs z sz kd n ls (.int (nI len) :: st) (P, I) q o) : Gx p l e fr lo s m args below meth c nL c0 k0 D cs z sz kd pc ls (.ref a :: st) (P, I) q o := by
  subst hn
  intro out ho h1 h2
  have g' := g out ho h1 h2
  refine ⟨g'.1, fun H locs la hR hS hl => ?_⟩
  have hat := hR.2 a (by rw [hka]; exact Nat.le_of_ble_eq_true rfl)
  rw [hka] at hat
  have hP : va_P D clX [(a, .inl (cs 5, len, .inr (.inr (.inr (.inr (P a))))))] H := fun k q hk => by
    cases k with
    | zero => cases hk; exact hat
    | succ k => simp at hk
  exact va_alen (v := nI len) K.1 K.2.1 hK.1 hP 0 5 rfl rfl rfl hd (g'.2 H locs la hR hS hl)
/-- what may lie in a list: a line or an entry -/
def isEl (kd : Kd) (b : Nat) : Prop := kd b = (11, 0, 0) ∨ isEn kd b
def ckL (kd : Kd) (b : Nat) : Option Unit := if kd b = (11, 0, 0) ∨ kd b = (12, 0, 0) ∨ kd b = (13, 0, 0) ∨ kd b = (14, 0, 0) ∨ kd b = (15, 0, 0) ∨ kd b = (16, 0, 0) ∨ kd b = (17, 0, 0) then some () else none
theorem gx_ckL {b : Nat} {kk : Unit → Option O} (g : isEl kd b → Gx p l e fr lo s m args below meth c nL c0 k0 D cs z sz kd pc ls st σ q (kk ())) : Gx p l e fr lo s m args below meth c nL c0 k0 D cs z sz kd pc ls st σ q ((ckL kd b).bind kk) := by
  intro out ho
  obtain ⟨u, hu, hk⟩ := Option.bind_eq_some_iff.mp ho
  unfold ckL at hu
  split at hu
  · next h => exact g h out hk
  · cases hu
/-- such an element's cell -/
theorem el_any (hK : xK D cs z s) {H : Heap} {b : Nat} (hR : xRep D cs z sz kd (P, I) H) (h : isEl kd b) : va_Any "java/lang/Object" s H b := by
  have key : ∀ (k : Nat) (C : String) (T : u_T) (N : Nat), kd b = (k, 0, 0) → k < 90 → clX[k]? = some (C, T, N) → (∃ fs, cellE cs z (k, 0, 0) b (P b) (I b) = .inr (k, fs)) → va_Nw (.castable C "java/lang/Object") s → va_Any "java/lang/Object" s H b := by
    intro k C T N hk h9 hc ⟨fs, he⟩ hw
    have hat := hR.2 b (by rw [hk]; exact h9)
    rw [hk, he] at hat
    have hP : va_P D clX [(b, .inr (k, fs))] H := fun i q hi => by
      cases i with
      | zero => cases hi; exact hat
      | succ i => simp at hi
    refine va_rAny hK.1 hP (q0 := 0) (ci := k) rfl hc (fun comp c0 h1 h2 => ?_)
    obtain ⟨c1, t1, f1, f2, f3⟩ := Cond.castable_spec (va_Nw.use (A := #[]) rfl hw)
    cases Option.some.inj (f1.symm.trans h2)
    cases Option.some.inj (f2.symm.trans h1)
    exact f3
  rcases h with h | h | h | h | h | h | h
  · exact key 11 _ _ _ h (by omega) rfl ⟨_, rfl⟩ (nc_q2270 hK.2)
  · exact key 12 _ _ _ h (by omega) rfl ⟨_, rfl⟩ (nc_q2271 hK.2)
  · exact key 13 _ _ _ h (by omega) rfl ⟨_, rfl⟩ (nc_q2272 hK.2)
  · exact key 14 _ _ _ h (by omega) rfl ⟨_, rfl⟩ (nc_q2273 hK.2)
  · exact key 15 _ _ _ h (by omega) rfl ⟨_, rfl⟩ (nc_q2274 hK.2)
  · exact key 16 _ _ _ h (by omega) rfl ⟨_, rfl⟩ (nc_q2275 hK.2)
  · exact key 17 _ _ _ h (by omega) rfl ⟨_, rfl⟩ (nc_q2276 hK.2)

theorem ga_oast (K : CallFix p m c cc nL s args lw_all own) (hK : xK D cs z s) (hsh : Shp z kd) {a len inn b : Nat} {i : Int32} {kk : Ptr → Option O} (n : Nat) (hka : kd a = (25, len, inn)) (hkb : isEl kd b) (hd : decode cc pc = .ok (.aastore, 1)) (hn : pc + 1 = n) (g : ∀ P1, Gx p l e fr lo s m args below meth c nL c0 k0 D cs z sz kd n ls st (P1, I) q (kk P1)) : Gx p l e fr lo s m args below meth c nL c0 k0 D cs z sz kd pc ls (.ref b :: .int i :: .ref a :: st) (P, I) q ((wrP P a len i b).bind kk) := by
  subst hn
  intro out ho h1 h2
  obtain ⟨P1, hP1, hk⟩ := Option.bind_eq_some_iff.mp ho
  obtain ⟨j, hj, hP2⟩ := Option.map_eq_some_iff.mp hP1
  obtain ⟨hin, hij, hlt⟩ := ix_some hj
  have g' := g P1 out hk h1 h2
  refine ⟨g'.1, fun H locs la hR hS hl => ?_⟩
  have hA := sh_xA hsh (a := a) (by rw [hka]; exact Nat.le_of_ble_eq_true rfl)
  have hat := hR.2 a (by rw [hka]; exact Nat.le_of_ble_eq_true rfl)
  rw [hka] at hat
  subst hij
  have h0 : ¬ i < 0 := fun q => hin (Or.inl q)
  obtain ⟨cellV, g1, gs, ⟨kV, g4⟩, g6⟩ := el_any hK hR hkb
  obtain ⟨kA, comp, k1, k2, k3, -⟩ := (hK.1.2 5 _ rfl).2
  have g5 := g6 comp k3
  have g3 : ∀ q, cellV.vm ≠ .statics q := fun q h => by rw [h] at gs; cases gs
  obtain ⟨kC, hkC, -⟩ := Vm.findClass_spec k3
  refine W.aast K.1 K.2.1 hat (fun q h => by cases h) (fun h => by cases h) k1 k2 rfl hkC ⟨h0, by show _ < (arrV _ _ _).slots.size; rw [arrV_size]; exact hlt⟩ g1 g3 g4 g5 rfl rfl hd fun H1 e1 hz oq => ?_
  refine g'.2 H1 _ la (xset hR hz oq (fun b hb => by rw [← hP2]; exact if_neg hb) (fun _ _ => rfl) ?_) (hS.put hz oq hA) hl
  rw [hka, ← hP2, show upP P a i.toNatClampNeg (some b) a = va_up (P a) i.toNatClampNeg (some b) from if_pos rfl]
  show H1[a]? = some (vp_cell _ _)
  rw [e1]
  have hcel : vp_cell (cs 5) (len, .inr (.inr (.inr (.inr (P a))))) = arrV (cs 5) len (fun j => va_rf (P a j)) := rfl
  show some ((vp_cell (cs 5) (len, .inr (.inr (.inr (.inr (P a)))))).setSlot _ _) = some (arrV (cs 5) len (fun j => va_rf (va_up (P a) i.toNatClampNeg (some b) j)))
  rw [hcel, arrV_store]
  congr 2
  funext q
  by_cases hq : q = i.toNatClampNeg
  · subst hq
    simp [updV, va_up, va_rf]
  · simp [updV, va_up, hq]
theorem ga_hast (K : CallFix p m c cc nL s args lw_all own) (hK : xK D cs z s) (hsh : Shp z kd) {a len inn b : Nat} {i : Int32} {kk : Ptr → Option O} (n : Nat) (hka : kd a = (63, len, inn)) (hkb : kd b = (3, 0, 0)) (hd : decode cc pc = .ok (.aastore, 1)) (hn : pc + 1 = n) (g : ∀ P1, Gx p l e fr lo s m args below meth c nL c0 k0 D cs z sz kd n ls st (P1, I) q (kk P1)) : Gx p l e fr lo s m args below meth c nL c0 k0 D cs z sz kd pc ls (.ref b :: .int i :: .ref a :: st) (P, I) q ((wrP P a len i b).bind kk) := by
  subst hn
  intro out ho h1 h2
  obtain ⟨P1, hP1, hk⟩ := Option.bind_eq_some_iff.mp ho
  obtain ⟨j, hj, hP2⟩ := Option.map_eq_some_iff.mp hP1
  obtain ⟨hin, hij, hlt⟩ := ix_some hj
  have g' := g P1 out hk h1 h2
  refine ⟨g'.1, fun H locs la hR hS hl => ?_⟩
  have hA := sh_xA hsh (a := a) (by rw [hka]; exact Nat.le_of_ble_eq_true rfl)
  have hat := hR.2 a (by rw [hka]; exact Nat.le_of_ble_eq_true rfl)
  rw [hka] at hat
  subst hij
  have h0 : ¬ i < 0 := fun q => hin (Or.inl q)
  have hbt := hR.2 b (by rw [hkb]; exact Nat.le_of_ble_eq_true rfl)
  rw [hkb] at hbt
  obtain ⟨r', hr', cellV, g1, g2, g30, -⟩ := hbt
  have hcls := (hK.1.1 3 _ rfl).2
  obtain ⟨kA, comp, k1, k2, k3, -⟩ := (hK.1.2 3 _ rfl).2
  have hcomp : comp = D.1 3 := Option.some.inj (k3.symm.trans hcls.1)
  subst hcomp
  obtain ⟨kC, hkC, -⟩ := hcls.2
  have g3 : ∀ q, cellV.vm ≠ .statics q := fun q h => by rw [g30] at h; cases h
  have g4 : s.vm.classes[cellV.cls]? = some kC := by rw [g2]; exact hkC
  have g5 : s.vm.assignable cellV.cls (D.1 3) = true := by rw [g2]; exact va_assign hcls
  refine W.aast K.1 K.2.1 hat (fun q h => by cases h) (fun h => by cases h) k1 k2 rfl hkC ⟨h0, by show _ < (arrV _ _ _).slots.size; rw [arrV_size]; exact hlt⟩ g1 g3 g4 g5 rfl rfl hd fun H1 e1 hz oq => ?_
  refine g'.2 H1 _ la (xset hR hz oq (fun b hb => by rw [← hP2]; exact if_neg hb) (fun _ _ => rfl) ?_) (hS.put hz oq hA) hl
  rw [hka, ← hP2, show upP P a i.toNatClampNeg (some b) a = va_up (P a) i.toNatClampNeg (some b) from if_pos rfl]
  show H1[a]? = some (vp_cell _ _)
  rw [e1]
  have hcel : vp_cell (cs 3) (len, .inr (.inr (.inr (.inr (P a))))) = arrV (cs 3) len (fun j => va_rf (P a j)) := rfl
  show some ((vp_cell (cs 3) (len, .inr (.inr (.inr (.inr (P a)))))).setSlot _ _) = some (arrV (cs 3) len (fun j => va_rf (va_up (P a) i.toNatClampNeg (some b) j)))
  rw [hcel, arrV_store]
  congr 2
  funext q
  by_cases hq : q = i.toNatClampNeg
  · subst hq
    simp [updV, va_up, va_rf]
  · simp [updV, va_up, hq]

/-- a final reference, or none, written by the constructor -/
theorem ga_putqF (K : CallFix p m c cc nL s args lw_all own) (hK : xK D cs z s) (hsh : Shp z kd) {C : String} {T : u_T} {N ci index a : Nat} {b : Option Nat} {t : Nat × Nat × Nat} {fs : List Value} (k : Nat) {ty : FieldType} {kk : Ptr → Option O} (n : Nat) (hin : ∀ w ∈ u_ws C T N, w ∈ lw_all) (ty0 : Nat → FieldType) (hty : ∀ k, k < N → parseFieldDescriptor (T k).2.2.1 = some (ty0 k)) (hnm : ∀ a, a < N → ∀ b, b < N → a ≠ b → (T a).2.1 ≠ (T b).2.1) (hka : kd a = t) (he : cellE cs z t a (P a) (I a) = .inr (ci, fs)) (he2 : cellE cs z t a (va_up (P a) k b) (I a) = .inr (ci, fs.set k (va_rf b))) (h90 : t.1 < 90) (hc : clX[ci]? = some (C, T, N)) (hk : k < N)
    (hlink : Cond.fieldLink own index (T k).1 (T k).2.1 (T k).2.2.1 ∈ lw_all) (hfin : (T k).2.2.2 = true) (hin2 : meth.name = "<init>") (hdecl : (T k).1 = own) (hpd : parseFieldDescriptor (T k).2.2.1 = some ty) (hnar : narrow ty (va_rf b) = va_rf b) (hfit : fits ty (va_rf b) = true) (hlen : k < fs.length) (hd : decode cc pc = .ok (.putfield index, 3)) (hn : pc + 3 = n) (g : ∀ P1, P1 = upP P a k b → Gx p l e fr lo s m args below meth c nL c0 k0 D cs z sz kd n ls st (P1, I) q (kk P1)) : Gx p l e fr lo s m args below meth c nL c0 k0 D cs z sz kd pc ls (va_rf b :: .ref a :: st) (P, I) q (nm (upP P a k b) kk) := by
  subst hn
  intro out ho h1 h2
  have g' := g _ rfl out ho h1 h2
  refine ⟨g'.1, fun H locs la hR hS hl => ?_⟩
  have hA := sh_xA hsh (a := a) (by rw [hka]; exact h90)
  have hat := hR.2 a (by rw [hka]; exact h90)
  rw [hka, he] at hat
  refine w_putF K hK.1 hin ty0 hty hnm hat hc k hk hlink hfin hin2 hdecl hpd hnar hfit hlen hd (fun H1 j hat1 hz oq => ?_)
  refine g'.2 H1 _ la (xset hR hz oq (fun b hb => if_neg hb) (fun _ _ => rfl) ?_) (hS.put hz oq hA) hl
  rw [hka, show upP P a k b a = va_up (P a) k b from if_pos rfl, he2]
  exact hat1
end GCV

section WCP
variable {p : Program} {l : Launch} {e : Env} {R : Room} {s : State} {m : MethodId} {args : Array Value} {below : List Frame} {meth : Method} {c : Code} {H : Heap} {locs : List Loc} {cells slots : Nat} {Q : State → Prop}
variable {cc : ByteArray} {pc : Nat} {ls : Array Slot} {rest : List Value} {D : va_G} {cl : List vw_C} {a : Nat} {tys : List (ClassId × FieldType)} {ws : va_W}
theorem w_copyM {cc : ByteArray} (hexec : p.tables.exec = Jvm.exec) (hb : c.code = cc) (hml : c.maxLocals = ls.size) {own : String} {index : Nat} (hown : s.vm.findClass own = some m.cls) (hlink : (Cond.methodLink own index arraycopyName).before args s = true) (hnat : (Cond.native arraycopyName).before args s = true) (hstat : (Cond.static arraycopyName).before args s = true) (hini : (Cond.initialized "java/lang/System").before args s = true)
    (hK : va_K D cl tys s) (hP : va_P D cl ws H) (q0 q1 t0 t1 : Nat) {a0 : Nat} {c0 c1 : ClassId} {n0 n1 : Nat} {f g : Nat → Option Nat} {E0 E1 : String} (ha0 : ws[q0]? = some (a0, .inl (c0, n0, .inr (.inr (.inr (.inr f)))))) (ha1 : ws[q1]? = some (a, .inl (c1, n1, .inr (.inr (.inr (.inr g)))))) (ht0 : tys[t0]? = some (c0, .object E0)) (ht1 : tys[t1]? = some (c1, .object E1))
    {sp dp n : Int32} (h1 : ¬ sp < 0) (h2 : ¬ dp < 0) (h3 : ¬ n < 0) (h4 : sp.toNatClampNeg + n.toNatClampNeg ≤ n0) (h5 : dp.toNatClampNeg + n.toNatClampNeg ≤ n1) (hel : ∀ i : Nat, i < n.toNatClampNeg → ∀ y : Nat, f (sp.toNatClampNeg + i) = some y → va_Any E1 s H y)
    (hframes : 1 ≤ R.frames) (hlocals : (rest.map fun v => v.category).sum + (nativeFrameWords "java/lang/System" "arraycopy" 5 + 11) ≤ R.locals) (hdg : decode cc pc = .ok (.invokestatic index, 3))
    (kk : ∀ (H1 : Heap) (L : List Loc), H1.size = H.size → (∀ q : Nat, q ≠ a → H1[q]? = H[q]?) → H1[a]? = some (vp_cell c1 (n1, .inr (.inr (.inr (.inr (va_cpy f g sp.toNatClampNeg dp.toNatClampNeg n.toNatClampNeg)))))) → (∀ x ∈ L, x.base = a) → W p l e R s m args below meth c H1 (locs ++ L) cells slots Q (F0 m (pc + 3) ls rest)) : W p l e R s m args below meth c H locs cells slots Q (F0 m pc ls (.int n :: .int dp :: .ref a :: .int sp :: .ref a0 :: rest)) := by
  have nn : ∀ z : Int32, ¬ z < 0 → z.toInt = (z.toNatClampNeg : Int) := by
    intro z hz
    have hz0 : (0 : Int) ≤ z.toInt := by
      have := Int32.not_lt.mp hz
      simpa using Int32.le_iff_toInt_le.mp this
    show z.toInt = ((z.toInt.toNat : Nat) : Int)
    omega
  intro T hT X
  have hc0 : H[a0]? = some (vp_cell c0 (n0, .inr (.inr (.inr (.inr f))))) := hP q0 _ ha0
  have hc1 : H[a]? = some (vp_cell c1 (n1, .inr (.inr (.inr (.inr g))))) := hP q1 _ ha1
  obtain ⟨-, k0, hk0, cm0, hkk0⟩ := (hK.2 t0 _ ht0).1 n0 (fun j => va_rf (f j))
  obtain ⟨-, k1, hk1, cm1, hkk1⟩ := (hK.2 t1 _ ht1).1 n1 (fun j => va_rf (g j))
  obtain ⟨vm', X', step⟩ := X.arraycopy hexec hown hlink hnat hstat hini (src := a0) (dst := a) (cs := vp_cell c0 (n0, .inr (.inr (.inr (.inr f))))) (cd := vp_cell c1 (n1, .inr (.inr (.inr (.inr g))))) (srcPos := sp) (destPos := dp) (n := n) (by rw [hT]; exact hc0) (by rw [hT]; exact hc1)
    (fun _ h => by cases h) (fun _ h => by cases h) (fun h => by cases h) (fun h => by cases h) hk0 hk1 hkk0 hkk1 rfl h1 h2 h3
    (by rw [nn sp h1, nn n h3]; show ¬ _ > ((arrV c0 n0 (fun j => va_rf (f j))).slots.size : Int); rw [arrV_size]; omega)
    (by rw [nn dp h2, nn n h3]; show ¬ _ > ((arrV c1 n1 (fun j => va_rf (g j))).slots.size : Int); rw [arrV_size]; omega)
    (fun vm₁ hal i hi => by
      have e : (vp_cell c0 (n0, .inr (.inr (.inr (.inr f))))).slots.getD (sp.toNatClampNeg + i) .null = va_rf (f (sp.toNatClampNeg + i)) := by
        show (arrV c0 n0 (fun j => va_rf (f j))).slots.getD _ _ = _
        rw [Array.getD_eq_getD_getElem?, arrV_read _ _ (by omega)]
        rfl
      rw [e]
      cases hy : f (sp.toNatClampNeg + i) with
      | none => exact ⟨rfl, trivial⟩
      | some y =>
        obtain ⟨cellV, g1, g2, ⟨kC, hkC⟩, hasg⟩ := hel i hi y hy
        obtain ⟨kA, comp, r1, r2, r3, -⟩ := (hK.2 t1 _ ht1).2
        cases hk1.symm.trans r1
        cases hkk1.symm.trans r2
        obtain ⟨kE, hkE, -⟩ := Vm.findClass_spec r3
        obtain ⟨kC', hkC', -⟩ := hal.2.2 _ _ hkC
        obtain ⟨kE', hkE', -⟩ := hal.2.2 _ _ hkE
        refine ⟨rfl, cellV, (show T.heap[y]? = some cellV by rw [hT]; exact g1), (fun q h => by rw [h] at g2; cases g2), ⟨kC', hkC'⟩, ?_, ?_⟩
        · exact ⟨kE', hkE'⟩
        · show vm₁.assignable _ _ = true
          rw [hal.assignable]
          exact hasg _ r3)
    (g := F0 m pc ls (.int n :: .int dp :: .ref a :: .int sp :: .ref a0 :: rest)) rfl (by rw [hml]) (rest := rest) rfl (by rw [hb]; exact hdg) hframes (by show 2 * 0 + _ + _ ≤ _; omega)
  have e1 : copied (vp_cell c0 (n0, .inr (.inr (.inr (.inr f))))) (vp_cell c1 (n1, .inr (.inr (.inr (.inr g))))) sp dp n = vp_cell c1 (n1, .inr (.inr (.inr (.inr (va_cpy f g sp.toNatClampNeg dp.toNatClampNeg n.toNatClampNeg))))) := by
    rw [vp_cell_q, vp_cell_q, vp_cell_q]
    exact va_copied (fun z => va_rf z) c0 c1 f g h4
  rw [e1] at X' step
  have hl : a < H.size := (Array.getElem?_eq_some_iff.mp hc1).1
  have hheap : ((T.setVm vm').setCell a (vp_cell c1 (n1, .inr (.inr (.inr (.inr (va_cpy f g sp.toNatClampNeg dp.toNatClampNeg n.toNatClampNeg))))))).heap = H.setIfInBounds a (vp_cell c1 (n1, .inr (.inr (.inr (.inr (va_cpy f g sp.toNatClampNeg dp.toNatClampNeg n.toNatClampNeg)))))) := by rw [← hT]; rfl
  have oq : ∀ q : Nat, q ≠ a → (H.setIfInBounds a (vp_cell c1 (n1, .inr (.inr (.inr (.inr (va_cpy f g sp.toNatClampNeg dp.toNatClampNeg n.toNatClampNeg)))))))[q]? = H[q]? := fun q hq => by simp [Array.getElem?_setIfInBounds, Ne.symm hq]
  obtain ⟨t, a1, b1⟩ := kk _ _ (by simp) oq (by simp [Array.getElem?_setIfInBounds, hl]) (fun x hx => by obtain ⟨z, -, hz⟩ := List.mem_map.mp hx; rw [← hz]) _ hheap X'
  exact ⟨t, step t a1, b1⟩
end WCP

section GCP
variable {p : Program} {l : Launch} {e : Env} {fr lo : Nat} {s : State} {m : MethodId} {args : Array Value} {below : List Frame} {meth : Method} {c : Code} {nL : Nat} {c0 k0 : Nat × Nat} {D : va_G} {cs : Cs} {z sz : Nat} {kd : Kd} {O : Type} {pc : Nat} {ls : List (Nat × Value)} {st : List Value} {P : Ptr} {I : Mem} {σ : Ptr × Mem} {q : O → En} {o : Option O} {cc : ByteArray} {own : String}
theorem g_acmp_same {S : Type} {Rep : S → Heap → Prop} {cnt : S → Nat × Nat} {A : Nat → Prop} {τ : S} {Ts : List Cond} (K : CallFix p m c cc nL s args Ts own) {x : Nat} {off : Int} (n : Nat) (hd : decode cc pc = .ok (.if_acmp .ne off, 3)) (hn : pc + 3 = n) (t : Nat) (ht : (pc : Int) + off = (t : Int)) (g : G p l e fr lo s m args below meth c nL c0 Rep cnt A n ls st τ q o) : G p l e fr lo s m args below meth c nL c0 Rep cnt A pc ls (.ref x :: .ref x :: st) τ q o := by
  subst hn
  exact G.map (fun R H locs ce sl Q la hl k => lv_acmp_ne (rx := some x) (ry := some x) K.1 K.2.1 hd ht (fun h => absurd rfl h) (fun _ => k la hl)) g
theorem ga_ldcM (K : CallFix p m c cc nL s args lw_all own) (hK : xK D cs z s) {index : Nat} (n : Nat) (hlink : Cond.classLink own index "[Ljava/lang/Object;" ∈ lw_all) (hd : decode cc pc = .ok (.ldc index, 2)) (hn : pc + 2 = n) (g : Gx p l e fr lo s m args below meth c nL c0 k0 D cs z sz kd n ls (.ref (cs 303) :: st) (P, I) q o) : Gx p l e fr lo s m args below meth c nL c0 k0 D cs z sz kd pc ls st (P, I) q o := by
  subst hn
  exact G.map (fun R H locs ce sl Q la hl k => va_ldcM K.1 K.2.1 K.2.2.2.1 (K.2.2.2.2 _ hlink) hK.2.2.2.2.2.2.2.2.2.2.2.2.2.1.2.1 hd (k la hl)) g
theorem ga_getC (K : CallFix p m c cc nL s args lw_all own) (hK : xK D cs z s) {index a len inn : Nat} (n : Nat) (hlink : Cond.methodLink own index ⟨"java/lang/Object", "getClass", "()Ljava/lang/Class;"⟩ ∈ lw_all) (hsel : Cond.selects "[Ljava/lang/Object;" ⟨"java/lang/Object", "getClass", "()Ljava/lang/Class;"⟩ ⟨"java/lang/Object", "getClass", "()Ljava/lang/Class;"⟩ ∈ lw_all) (hinst : Cond.instanceMethod ⟨"java/lang/Object", "getClass", "()Ljava/lang/Class;"⟩ ∈ lw_all) (hnat : Cond.native ⟨"java/lang/Object", "getClass", "()Ljava/lang/Class;"⟩ ∈ lw_all) (hka : kd a = (25, len, inn)) (hfr : 1 ≤ fr) (hlo : 22 ≤ lo) (hcat : (st.map fun v => v.category).sum ≤ 8) (hd : decode cc pc = .ok (.invokevirtual index, 3)) (hn : pc + 3 = n) (g : Gx p l e fr lo s m args below meth c nL c0 k0 D cs z sz kd n ls (.ref (cs 303) :: st) (P, I) q o) : Gx p l e fr lo s m args below meth c nL c0 k0 D cs z sz kd pc ls (.ref a :: st) (P, I) q o := by
  subst hn
  intro out ho h1 h2
  have g' := g out ho h1 h2
  refine ⟨g'.1, fun H locs la hR hS hl => ?_⟩
  have hat := hR.2 a (by rw [hka]; exact Nat.le_of_ble_eq_true rfl)
  rw [hka] at hat
  exact va_getC K.1 K.2.1 (K.2.2.1.trans hl.1.symm) K.2.2.2.1 (K.2.2.2.2 _ hlink) (va_Dc.use hK.2.2.2.2.2.2.2.2.2.2.2.2.2.1.2.2) (K.2.2.2.2 _ hsel) (K.2.2.2.2 _ hinst) (K.2.2.2.2 _ hnat) hK.2.2.2.2.2.2.2.2.2.2.2.2.2.1.2.1 ⟨_, hat, rfl, va_nmO (hK.1.2 5 _ rfl).2 (by decide)⟩ hfr (by show _ + 14 ≤ lo; omega) hd (g'.2 H locs la hR hS hl)
/-- references copied from the front of one array to that of another -/
noncomputable def cpO (kd : Kd) (P : Ptr) (a0 len0 b len1 : Nat) (x : Int32) : Option Ptr := @ite _ (¬ x < 0 ∧ x.toNatClampNeg ≤ len0 ∧ x.toNatClampNeg ≤ len1 ∧ ∀ i, i < x.toNatClampNeg → ∀ y, P a0 i = some y → isEl kd y) (Classical.propDecidable _) (some (upA P b (va_cpy (P a0) (P b) 0 0 x.toNatClampNeg))) none
theorem ga_copy (K : CallFix p m c cc nL s args lw_all own) (hK : xK D cs z s) (hsh : Shp z kd) {a0 len0 i0 b len1 i1 index : Nat} {x : Int32} {kk : Ptr → Option O} (n : Nat) (hlink : Cond.methodLink own index arraycopyName ∈ lw_all) (hnat : Cond.native arraycopyName ∈ lw_all) (hstat : Cond.static arraycopyName ∈ lw_all) (hini : Cond.initialized "java/lang/System" ∈ lw_all) (h0 : kd a0 = (25, len0, i0)) (hb : kd b = (25, len1, i1)) (hfr : 1 ≤ fr) (hlo : (st.map fun v => v.category).sum + (nativeFrameWords "java/lang/System" "arraycopy" 5 + 11) ≤ lo) (hd : decode cc pc = .ok (.invokestatic index, 3)) (hn : pc + 3 = n) (g : ∀ P1, Gx p l e fr lo s m args below meth c nL c0 k0 D cs z sz kd n ls st (P1, I) q (kk P1)) : Gx p l e fr lo s m args below meth c nL c0 k0 D cs z sz kd pc ls (.int x :: .int (nI 0) :: .ref b :: .int (nI 0) :: .ref a0 :: st) (P, I) q ((cpO kd P a0 len0 b len1 x).bind kk) := by
  subst hn
  intro out ho h1 h2
  obtain ⟨P1, hP1, hk⟩ := Option.bind_eq_some_iff.mp ho
  unfold cpO at hP1
  split at hP1
  · next hc =>
    obtain ⟨c1, c2, c3, c4⟩ := hc
    cases hP1
    have g' := g _ out hk h1 h2
    refine ⟨g'.1, fun H locs la hR hS hl => ?_⟩
    have hA := sh_xA hsh (a := b) (by rw [hb]; exact Nat.le_of_ble_eq_true rfl)
    have hat0 := hR.2 a0 (by rw [h0]; exact Nat.le_of_ble_eq_true rfl)
    have hatb := hR.2 b (by rw [hb]; exact Nat.le_of_ble_eq_true rfl)
    rw [h0] at hat0
    rw [hb] at hatb
    have hP : va_P D clX [(a0, .inl (cs 5, len0, .inr (.inr (.inr (.inr (P a0)))))), (b, .inl (cs 5, len1, .inr (.inr (.inr (.inr (P b))))))] H := fun k q hk => by
      match k with
      | 0 => cases hk; exact hat0
      | 1 => cases hk; exact hatb
      | k + 2 => simp at hk
    have z0 : (nI 0).toNatClampNeg = 0 := by decide
    refine w_copyM K.1 K.2.1 (K.2.2.1.trans hl.1.symm) K.2.2.2.1 (K.2.2.2.2 _ hlink) (K.2.2.2.2 _ hnat) (K.2.2.2.2 _ hstat) (K.2.2.2.2 _ hini) hK.1 hP 0 1 5 5 rfl rfl rfl rfl (by decide) (by decide) c1 (by rw [z0]; omega) (by rw [z0]; omega) (fun i hi y hy => el_any hK hR (c4 i hi y (by rw [z0, Nat.zero_add] at hy; exact hy))) hfr hlo hd (fun H1 L hz oq e1 hL => ?_)
    rw [z0] at e1
    refine g'.2 H1 _ la (xset hR hz oq (fun b' hb' => if_neg hb') (fun _ _ => rfl) ?_) ⟨by rw [hz]; exact hS.1, fun q r1 r2 => by rw [oq q (fun e => r2 (by rw [e]; exact hA))]; exact hS.2.1 q r1 r2, fun y hy => ?_⟩ hl
    · rw [hb, show upA P b (va_cpy (P a0) (P b) 0 0 x.toNatClampNeg) b = va_cpy (P a0) (P b) 0 0 x.toNatClampNeg from if_pos rfl]
      exact e1
    · rcases List.mem_append.mp hy with h | h
      · exact hS.2.2 y h
      · rw [hL y h]; exact hA
  · cases hP1
/-- a list's modCount, named by the list's own class -/
theorem ga_getM (K : CallFix p m c cc nL s args lw_all own) (hK : xK D cs z s) (hsh : Shp z kd) {a : Nat} (n : Nat) (hown0 : own = RJ2) (hka : kd a = (18, 0, 0)) (hd : decode cc pc = .ok (.getfield 63, 3)) (hn : pc + 3 = n) (g : Gx p l e fr lo s m args below meth c nL c0 k0 D cs z sz kd n ls (.int (I a 0) :: st) (P, I) q o) : Gx p l e fr lo s m args below meth c nL c0 k0 D cs z sz kd pc ls (.ref a :: st) (P, I) q o := by
  subst hn
  subst hown0
  intro out ho h1 h2
  have g' := g out ho h1 h2
  refine ⟨g'.1, fun H locs la hR hS hl => ?_⟩
  have hat := hR.2 a (by rw [hka]; exact Nat.le_of_ble_eq_true rfl)
  rw [hka] at hat
  have hP : va_P D clX [(a, cellE cs z (18, 0, 0) a (P a) (I a))] H := fun i q hi => by
    cases i with
    | zero => cases hi; exact hat
    | succ i => simp at hi
  exact va_get (D := D) (cl := clX) (ci := 18) (C := RJ2) (T := TJ2) (N := 3) K.1 K.2.1 K.2.2.2.2 in_J2 K.2.2.2.1 hK.1 hP 0 rfl rfl 0 (by decide) (K.2.2.2.2 _ q238) (fun x hx => u_same (K.2.2.2.2 _ q239) x hx) rfl hd (g'.2 H locs la hR hS hl)
theorem ga_putM (K : CallFix p m c cc nL s args lw_all own) (hK : xK D cs z s) (hsh : Shp z kd) {a : Nat} {x : Int32} {kk : Mem → Option O} (n : Nat) (hown0 : own = RJ2) (hka : kd a = (18, 0, 0)) (hd : decode cc pc = .ok (.putfield 63, 3)) (hn : pc + 3 = n) (g : ∀ I1, I1 = up2 I a 0 x → Gx p l e fr lo s m args below meth c nL c0 k0 D cs z sz kd n ls st (P, I1) q (kk I1)) : Gx p l e fr lo s m args below meth c nL c0 k0 D cs z sz kd pc ls (.int x :: .ref a :: st) (P, I) q (nm (up2 I a 0 x) kk) := by
  subst hn
  subst hown0
  intro out ho h1 h2
  have g' := g _ rfl out ho h1 h2
  refine ⟨g'.1, fun H locs la hR hS hl => ?_⟩
  have hA := sh_xA hsh (a := a) (by rw [hka]; exact Nat.le_of_ble_eq_true rfl)
  have hat := hR.2 a (by rw [hka]; exact Nat.le_of_ble_eq_true rfl)
  rw [hka] at hat
  have hap := va_apart (own := RJ2) K.2.2.2.2 in_J2 tyJ2 tyJ2_ok nmJ2 hK.1 (ci := 18) rfl
  obtain ⟨r, hr, cell, q1, q2, q3, q4⟩ := hat
  cases hr
  obtain ⟨hSl, hfc, kC, hkC, hkind⟩ := hK.1.1 18 _ rfl
  obtain ⟨cf, kf, fi, f, hi, hsl⟩ := hSl 0 (by decide)
  have hlay := K.2.2.2.2 _ (in_J2 _ (u_in_lay (k := 0) (by decide)))
  unfold u_lay at hlay
  rw [if_neg (by decide)] at hlay
  have hst := (u_facts hfc hkC (u_lays K.2.2.2.2 in_J2 (k := 0) (by decide)) hi).1
  have h6 := u_store hfc hkC hkind hlay hi (ty := .int) (v := .int x) (by decide +kernel) rfl rfl
  refine W.putK K.1 K.2.1 (f := f) ⟨K.2.2.2.1, K.2.2.2.2 _ q238, ⟨_, _, _, u_same (K.2.2.2.2 _ q239) _ hi⟩, hst⟩ (by rw [q2]; exact h6) q1 q3 (by rw [hsl]; exact k2_hasslot (q4 0 (by decide))) rfl rfl hd (fun H1 e1 hz oq => ?_)
  rw [hsl] at e1 ⊢
  refine g'.2 H1 _ la (xset hR hz oq (fun _ _ => rfl) (fun b hb => if_neg hb) ?_) (hS.put hz oq hA) hl
  rw [hka, show up2 I a 0 x a = upd (I a) 0 x from if_pos rfl]
  exact ⟨_, rfl, t_OB.to (V := updV (vp_V [.int (I a 0), va_rf (P a 1), .int (I a 2)]) 0 (.int x)) ⟨_, e1, q2, q3, t_set q4 hap (k := 0) (by decide) (.int x)⟩ (fun j _ => vp_updV_set (Nat.le_of_ble_eq_true rfl) (.int x) j)⟩
end GCP


/-! ===== text: a method with handlers that throws nothing on ===== -/
def hhT : List (Nat × Nat × Nat × Nat) := [(10, 29, 36, 136), (10, 29, 62, 0), (36, 55, 62, 0), (62, 64, 62, 0)]
def tq {R : Type} (D : va_G) (cs : Cs) (z : Nat) (c0 : Nat × Nat) (s : State) (args : Array Value) (below : List Frame) (fv : R → Option Value) : R × Sy → En := fun r => ((r.2.1, r.2.2.1), vx_MQ below (yPost D cs z (fv r.1, r.2)) (fun _ _ _ => False) args s (r.2.1 - c0.1) (r.2.2.1 - c0.2) (xA z))
def CtH (cs : Cs) (z : Nat) (y : MethodName) (cc : ByteArray) (nL : Nat) (ret : Option FieldType) (fr lo : Nat) (vals : List Value) (σ : Sy) {R : Type} (fv : R → Option Value) (o : Option (R × Sy)) : Prop :=
  ∀ (l : Launch) (D : va_G), l.stackTraces = false → Shp z σ.2.2.1 → ∀ r, o = some r → (σ.1 ≤ r.2.1 ∧ σ.2.1 ≤ r.2.2.1) ∧
    vx_Met l y (wsW_ y cc nL ret hhT) ({ frames := fr, cells := r.2.1 - σ.1, slots := r.2.2.1 - σ.2.1, locals := lo }) (va_Pc vals (yPre D cs z σ)) (yPost D cs z (fv r.1, r.2)) (fun _ _ _ => False) (r.2.1 - σ.1) (r.2.2.1 - σ.2.1) (xA z)
theorem moB_some {R : Type} {sz sl : Nat} {o : Option (R × Sy)} {r : R × Sy} (h : moB sz sl o = some r) : o = some r ∧ sz ≤ r.2.1 ∧ sl ≤ r.2.2.1 := by
  unfold moB at h
  obtain ⟨r', h1, h2⟩ := Option.bind_eq_some_iff.mp h
  split at h2
  · next hm => cases h2; exact ⟨h1, hm⟩
  · cases h2
theorem CtH.ofM {cs : Cs} {z : Nat} {y : MethodName} {cc : ByteArray} {nL : Nat} {ret : Option FieldType} {fr lo : Nat} {vals : List Value} {sz sl : Nat} {kd : Kd} {P : Ptr} {I : Mem} {R : Type} {fv : R → Option Value} {o : Option (R × Sy)} (own : String)
    (hy : plainName y.cls = true) (hyc : y.cls = own) (hlen : (lg_sl vals).length ≤ nL)
    (h : ∀ (l : Launch) (D : va_G) (p : Program) (e : Env) (s : State) (m : MethodId) (args : Array Value) (below : List Frame) (meth : Method) (c : Code), l.stackTraces = false → Shp z kd → CallFix p m c cc nL s args lw_all own → meth.sig.returnType = ret → meth.locks = false → c.exceptionTable.toList = tableOf hhT → xK D cs z s →
      Gx p l e fr lo s m args below meth c nL (sz, sl) (sz, sl) D cs z sz kd 0 (lv_args 0 vals) [] (P, I) (tq D cs z (sz, sl) s args below fv) o) : CtH cs z y cc nL ret fr lo vals (sz, sl, kd, P, I) fv (moB sz sl o) := by
  intro l D hlt hsh r hr
  obtain ⟨ho, hm⟩ := moB_some hr
  refine ⟨hm, vx_ofWH (cc := cc) (maxL := nL) (ret := ret) (hh := hhT) hy rfl ?_⟩
  intro p e s m args below meth c s₁ B hml hv
  obtain ⟨rfl, hP, hK⟩ := hv
  have hts := atoms_spec (ws := wsW_ y cc nL ret hhT) B.pre
  have hxt := vx_table (x := y) B (hts _ List.mem_cons_self)
  have hts : ∀ w ∈ lw_all, w.before _ s = true := fun w h => hts w (List.mem_cons_of_mem _ h)
  have hown : s.vm.findClass own = some m.cls := by rw [← hyc]; exact findClass_of_methodNamed B.named
  have hl := lv_entry vals (n := nL) hlen
  rw [lg_entry_eq]
  have w := (h l D p e s m _ below meth c hlt hsh ⟨B.exec, B.bytes, hml, hown, hts⟩ B.returns B.notSynchronized hxt hK r ho (Nat.le_refl _) (Nat.le_refl _)).2 s.heap [] _ hP va_S.rf hl
  dsimp only at w
  rw [Nat.sub_self, Nat.sub_self] at w
  exact w
/-- a call in a try: what goes on, and what catches -/
def tryc {R' O : Type} (o : Option ((Nat ⊕ R') × Sy)) (k1 : R' → Nat → Nat → Kd → Ptr → Mem → Option O) (k2 : Nat → Nat → Nat → Kd → Ptr → Mem → Option O) : Option O := o.bind fun r => match r.1 with
  | .inl a => k2 a r.2.1 r.2.2.1 r.2.2.2.1 r.2.2.2.2.1 r.2.2.2.2.2
  | .inr v => k1 v r.2.1 r.2.2.1 r.2.2.2.1 r.2.2.2.2.1 r.2.2.2.2.2
section GTC
variable {p : Program} {l : Launch} {e : Env} {fr lo : Nat} {s : State} {m : MethodId} {args : Array Value} {below : List Frame} {meth : Method} {c : Code} {nL : Nat} {c0 k0 : Nat × Nat} {D : va_G} {cs : Cs} {z sz : Nat} {kd : Kd} {O : Type} {pc : Nat} {ls : List (Nat × Value)} {st : List Value} {P : Ptr} {I : Mem} {σ : Ptr × Mem} {q : O → En} {o : Option O} {cc : ByteArray} {own : String}
theorem gt_iret {sl : Nat} (K : CallFix p m c cc nL s args lw_all own) (hr : meth.sig.returnType = some .int) (hlk : meth.locks = false) {R : Type} {v : Int32} {r : R} {fv : R → Option Value} (hd : decode cc pc = .ok (.ireturn, 1)) (hfv : fv r = some (.int v)) : Gx p l e fr lo s m args below meth c nL c0 (sz, sl) D cs z sz kd pc ls [.int v] (P, I) (tq D cs z c0 s args below fv) (some (r, sz, sl, kd, P, I)) := by
  intro out ho h1 h2
  cases ho
  exact ⟨⟨Nat.le_refl _, Nat.le_refl _⟩, fun H locs la hR hS hl => vx_ret (W.iret K.1 K.2.1 hr (fun t ht hW => ⟨⟨by rw [hfv], by rw [ht]; exact hR⟩, hS.F ht⟩) hS.2.2 hd hlk)⟩
theorem gt_callV (K : CallFix p m c cc nL s args lw_all own) (hK : xK D cs z s) (hsh : Shp z kd) (hlt : l.stackTraces = false) (hxt : c.exceptionTable.toList = tableOf hhT) (hown0 : own = RX0) (hpc : pc = 21) {R' : Type} {sl : Nat} {y : MethodName} {bytes : ByteArray} {maxL index a ci : Nat} {C : String} {T : u_T} {N : Nat} {t : Nat × Nat × Nat} {fs : List Value} {ret : Option FieldType} {fr' lo' : Nat} {vals stk : List Value} {fv' : R' → Option Value} {o' : Option ((Nat ⊕ R') × Sy)} {k1 k2 : _ → Nat → Nat → Kd → Ptr → Mem → Option O} (n : Nat) (hC : CtE cs z y bytes maxL ret fr' lo' (.ref a :: vals) (sz, sl, kd, P, I) fv' o') (hw : GoodIn lw_all (wsV own index C y (ws_ y bytes maxL ret)))
    (hdd : y.cls = C ∧ y.cls ≠ "java/lang/invoke/MethodHandle" ∧ y.cls ≠ "java/lang/invoke/VarHandle" ∧ (parseMethodDescriptor y.desc).map (fun d => d.parameters.length) = some vals.length) (hka : kd a = t) (he : cellE cs z t a (P a) (I a) = .inr (ci, fs)) (h90 : t.1 < 90) (hc : clX[ci]? = some (C, T, N)) (hroom : fr' + 1 ≤ fr ∧ 8 + (maxL + 11) + lo' ≤ lo) (hstk : stk = vals.reverse ++ .ref a :: st) (hcat : (st.map fun v => v.category).sum ≤ 8)
    (hd : decode cc pc = .ok (.invokevirtual index, 3)) (hn : pc + 3 = n) (g : ∀ v sz1 sl1 kd1 P1 I1, o' = some (.inr v, sz1, sl1, kd1, P1, I1) → Gx p l e fr lo s m args below meth c nL c0 (sz1, sl1) D cs z sz1 kd1 n ls ((fv' v).toList ++ st) (P1, I1) q (k1 v sz1 sl1 kd1 P1 I1)) (gx : ∀ v sz1 sl1 kd1 P1 I1, o' = some (.inl v, sz1, sl1, kd1, P1, I1) → Gx p l e fr lo s m args below meth c nL c0 (sz1, sl1) D cs z sz1 kd1 36 ls [.ref v] (P1, I1) q (k2 v sz1 sl1 kd1 P1 I1)) : Gx p l e fr lo s m args below meth c nL c0 (sz, sl) D cs z sz kd pc ls stk (P, I) q (tryc o' k1 k2) := by
  subst hn
  subst hstk
  subst hown0
  subst hpc
  intro out ho h1 h2
  obtain ⟨r, hr, hk⟩ := Option.bind_eq_some_iff.mp ho
  obtain ⟨⟨mm1, mm2⟩, hMet⟩ := hC l D hlt hsh r hr
  obtain ⟨rv, sz1, sl1, kd1, P1, I1⟩ := r
  have mm1 : sz ≤ sz1 := mm1
  have mm2 : sl ≤ sl1 := mm2
  have h1' : c0.1 ≤ sz := h1
  have h2' : c0.2 ≤ sl := h2
  have nn : sz1 ≤ (q out).1.1 ∧ sl1 ≤ (q out).1.2 := by
    cases rv with
    | inl v => exact (gx v sz1 sl1 kd1 P1 I1 hr out hk (Nat.le_trans h1' mm1) (Nat.le_trans h2' mm2)).1
    | inr v => exact (g v sz1 sl1 kd1 P1 I1 hr out hk (Nat.le_trans h1' mm1) (Nat.le_trans h2' mm2)).1
  obtain ⟨n1, n2⟩ := nn
  refine ⟨⟨Nat.le_trans mm1 n1, Nat.le_trans mm2 n2⟩, fun H locs la hR hS hl => ?_⟩
  have hat := hR.2 a (by rw [hka]; exact h90)
  rw [hka, he] at hat
  have hP : va_P D clX [(a, .inr (ci, fs))] H := fun k q hk => by
    cases k with
    | zero => cases hk; exact hat
    | succ k => simp at hk
  have c1 : sz - c0.1 + (sz1 - sz) = sz1 - c0.1 := by omega
  have c2 : sl - c0.2 + (sl1 - sl) = sl1 - c0.2 := by omega
  have hkeep : ∀ {st₀ t T' : State} {L : List Loc}, st₀.heap = H → T'.heap = t.heap → (∀ q ∈ L, xA z q.base) → va_F (xA z) st₀ t → va_S (xA z) s.heap T'.heap (locs ++ L) := by
    intro st₀ t T' L h0 e1 hL hF
    have hz : H.size ≤ t.heap.size := by rw [← h0]; exact hF.1
    refine ⟨by rw [e1]; exact Nat.le_trans hS.1 hz, fun x hx hxA => ?_, fun z hzz => ?_⟩
    · rw [e1, hF.2 x (by rw [h0]; exact Nat.lt_of_lt_of_le hx hS.1) hxA, h0]
      exact hS.2.1 x hx hxA
    · rcases List.mem_append.mp hzz with h | h
      · exact hS.2.2 z h
      · exact hL z h
  intro T0 hT X
  rcases vy_runV (As := vals) (rest := st) (g := F0 m 21 la (vals.reverse ++ .ref a :: st)) K hMet (cwV vals.length K.2.2.2.2 hw rfl rfl rfl hdd hroom) ⟨fun a U g mk q => by obtain ⟨q0, q1, q2⟩ := q; exact ⟨q0, q1, xK.same rfl rfl q2⟩, va_recv hK.1 hP (ci := ci) (q0 := 0) hc rfl, fun U hU hW => ⟨rfl, by rw [hU]; exact hR, xK.warm hW hS hU hK⟩⟩ rfl rfl hl.1 rfl (lv_room hcat) hd ⟨by show sz - c0.1 + (sz1 - sz) ≤ (q out).1.1 - c0.1; omega, by show sl - c0.2 + (sl1 - sl) ≤ (q out).1.2 - c0.2; omega⟩ T0 hT X with ⟨v, st₀, t, T', L, h0, X', hL, e1, e2, ⟨⟨v', hv, hv2⟩, hP1, hF⟩, stp⟩ | ⟨qa, st₀, t, T', L, E, ce, h0, X', hL, e1, e2, ⟨hv, hE, hP1, hF⟩, hce, hcv, hcl, stp⟩
  · dsimp only at hv
    subst hv
    cases hv2
    have g' := g v' sz1 sl1 kd1 P1 I1 hr out hk (Nat.le_trans h1' mm1) (Nat.le_trans h2' mm2)
    dsimp only at X'
    rw [c1, c2] at X'
    obtain ⟨t2, a1, b1⟩ := g'.2 T'.heap (locs ++ L) la (by rw [e1]; exact hP1) (hkeep h0 e1 hL hF) hl T' rfl X'
    exact ⟨t2, stp t2 a1, b1⟩
  · dsimp only at hv
    subst hv
    subst hE
    have g' := gx qa sz1 sl1 kd1 P1 I1 hr out hk (Nat.le_trans h1' mm1) (Nat.le_trans h2' mm2)
    dsimp only at X'
    rw [c1, c2] at X'
    have w := g'.2 T'.heap (locs ++ L) la (by rw [e1]; exact hP1) (hkeep h0 e1 hL hF) hl
    obtain ⟨t2, a1, b1⟩ := vx_catch (own := RX0) (name := "GingerRents$Fault") (E := "GingerRents$Fault") (pc := 21) (ls := la) (rest := st) K.2.2.2.1 [] ⟨10, 29, 36, 136⟩ _ hxt (fun z hz => by cases hz) (by decide) (by decide) (K.2.2.2.2 _ q485) (va_Nw.use rfl (nc_q649 hK.2)) (by rw [e1]; exact hce) hcv hcl w T' rfl X'
    exact ⟨t2, stp.trans a1, b1⟩
end GTC

