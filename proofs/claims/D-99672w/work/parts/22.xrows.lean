
/-! ===== static methods over numbers alone ===== -/
def imax (x y : Int32) : Int32 := if x < y then y else x
def imin (x y : Int32) : Int32 := if y < x then y else x
def iabs (x : Int32) : Int32 := if 0 ≤ x then x else 0 - x
def sPost (r : Option Value) : Array Value → State → Outcome → State → Prop := fun _ st oc t => oc = .returned r ∧ t.heap = st.heap
def sq (s : State) (args : Array Value) (below : List Frame) {O : Type} (fin : O → Option Value) : O → En := fun out => ((0, 0), MQ below (sPost (fin out)) args s 0 0 (fun _ => False))
def CtS (y : MethodName) (cc : ByteArray) (nL : Nat) (ret : Option FieldType) (fr lo : Nat) (vals : List Value) {O : Type} (fin : O → Option Value) (o : Option O) : Prop :=
  ∀ (l : Launch) (out : O), o = some out → Met l y (ws_ y cc nL ret) ({ frames := fr, cells := 0, slots := 0, locals := lo }) (va_Pc vals (fun _ => True)) (sPost (fin out)) 0 0 (fun _ => False)
abbrev Gs (p : Program) (l : Launch) (e : Env) (fr lo : Nat) (s : State) (m : MethodId) (args : Array Value) (below : List Frame) (meth : Method) (c : Code) (nL : Nat) {O : Type} (pc : Nat) (ls : List (Nat × Value)) (st : List Value) (q : O → En) (o : Option O) : Prop :=
  G p l e fr lo s m args below meth c nL (0, 0) (fun (_ : Unit) (H : Heap) => H = s.heap) (fun _ => (0, 0)) (fun _ => False) pc ls st () q o
theorem CtS.of {y : MethodName} {cc : ByteArray} {nL : Nat} {ret : Option FieldType} {fr lo : Nat} {vals : List Value} {O : Type} {fin : O → Option Value} {o : Option O} (own : String)
    (hy : plainName y.cls = true) (hyc : y.cls = own) (hlen : (lg_sl vals).length ≤ nL)
    (h : ∀ (l : Launch) (p : Program) (e : Env) (s : State) (m : MethodId) (args : Array Value) (below : List Frame) (meth : Method) (c : Code), CallFix p m c cc nL s args lw_all own → meth.sig.returnType = ret → meth.locks = false →
      Gs p l e fr lo s m args below meth c nL 0 (lv_args 0 vals) [] (sq s args below fin) o) : CtS y cc nL ret fr lo vals fin o := by
  intro l out ho
  refine Met.ofW (cc := cc) (maxL := nL) (ret := ret) hy rfl ?_
  intro p e s m args below meth c s₁ B hml hv
  obtain ⟨rfl, -⟩ := hv
  have hts := atoms_spec (ws := ws_ y cc nL ret) B.pre
  have hts : ∀ w ∈ lw_all, w.before _ s = true := fun w h => hts w (List.mem_cons_of_mem _ h)
  have hown : s.vm.findClass own = some m.cls := by rw [← hyc]; exact findClass_of_methodNamed B.named
  have hl := lv_entry vals (n := nL) hlen
  rw [lg_entry_eq]
  exact (h l p e s m _ below meth c ⟨B.exec, B.bytes, hml, hown, hts⟩ B.returns B.notSynchronized out ho (Nat.le_refl _) (Nat.le_refl _)).2 s.heap [] _ rfl va_S.rf hl
section GS
variable {p : Program} {l : Launch} {e : Env} {fr lo : Nat} {s : State} {m : MethodId} {args : Array Value} {below : List Frame} {meth : Method} {c : Code} {nL : Nat} {O : Type} {pc : Nat} {ls : List (Nat × Value)} {st : List Value} {cc : ByteArray} {own : String} {Ts : List Cond}
theorem gs_iret (K : CallFix p m c cc nL s args Ts own) (hr : meth.sig.returnType = some .int) (hlk : meth.locks = false) {v : Int32} {r : O} {fin : O → Option Value} (hd : decode cc pc = .ok (.ireturn, 1)) (hfin : fin r = some (.int v)) : Gs p l e fr lo s m args below meth c nL pc ls [.int v] (sq s args below fin) (some r) := by
  intro out ho h1 h2
  cases ho
  refine ⟨⟨Nat.le_refl _, Nat.le_refl _⟩, fun H locs la hR hS hl => ?_⟩
  exact W.iret (Qc := sPost (fin r)) (free := fun _ => False) (v := v) K.1 K.2.1 hr (fun t ht hW => ⟨by rw [hfin], by rw [ht]; exact hR⟩) hS.2.2 hd hlk
theorem gs_zret (K : CallFix p m c cc nL s args Ts own) (hr : meth.sig.returnType = some .boolean) (hlk : meth.locks = false) {v : Int32} {b : Bool} {r : O} {fin : O → Option Value} (hd : decode cc pc = .ok (.ireturn, 1)) (hv : v = bI b) (hfin : fin r = some (.int (bI b))) : Gs p l e fr lo s m args below meth c nL pc ls [.int v] (sq s args below fin) (some r) := by
  intro out ho h1 h2
  cases ho
  subst hv
  refine ⟨⟨Nat.le_refl _, Nat.le_refl _⟩, fun H locs la hR hS hl => ?_⟩
  exact W.zret (Qc := sPost (fin r)) (free := fun _ => False) (v := bI b) K.1 K.2.1 hr (by cases b <;> rfl) (fun t ht hW => ⟨by rw [hfin], by rw [ht]; exact hR⟩) hS.2.2 hd hlk
end GS
section GC
variable {p : Program} {l : Launch} {e : Env} {fr lo : Nat} {s : State} {m : MethodId} {args : Array Value} {below : List Frame} {meth : Method} {c : Code} {nL : Nat} {c0 : Nat × Nat} {S O : Type} {Rep : S → Heap → Prop} {cnt : S → Nat × Nat} {A : Nat → Prop} {pc : Nat} {ls : List (Nat × Value)} {st : List Value} {σ : S} {q : O → En} {cc : ByteArray} {own : String}
theorem g_runS {y : MethodName} {vals stk : List Value} {mt : Option Value} (hstk : stk = vals.reverse ++ st) {o : Option O}
    (hrun : ∀ (R : Room) (H : Heap) (locs : List Loc) (ce sl : Nat) (la : Array Slot), R.frames = fr → R.locals = lo → ce ≤ R.cells → sl ≤ R.slots → lv_has la nL ls → va_Run p l e R s m args below meth c H locs ce sl 0 0 (F0 m pc la stk) st (sPost mt vals.toArray) (fun _ => False))
    (g : G p l e fr lo s m args below meth c nL c0 Rep cnt A (pc + 3) ls (mt.toList ++ st) σ q o) : G p l e fr lo s m args below meth c nL c0 Rep cnt A pc ls stk σ q o := by
  intro out ho h1 h2
  have g' := g out ho h1 h2
  refine ⟨g'.1, fun H locs la hR hS hl => ?_⟩
  intro T hT X
  obtain ⟨v, st₀, t, T', L, h0, X', hL, e1, e2, ⟨hv, hh⟩, stp⟩ := hrun _ H locs _ _ la rfl rfl (Nat.sub_le_sub_right g'.1.1 _) (Nat.sub_le_sub_right g'.1.2 _) hl T hT X
  cases hv
  have hH : T'.heap = H := by rw [e1, hh, h0]
  obtain ⟨t2, a1, b1⟩ := g'.2 H locs la hR hS hl T' hH (Stand.forget X' (fun q h => (hL q h).elim))
  exact ⟨t2, stp t2 a1, b1⟩
theorem g_callS (K : CallFix p m c cc nL s args lw_all own) {y : MethodName} {bytes : ByteArray} {maxL index : Nat} {ret : Option FieldType} {fr' lo' : Nat} {vals stk : List Value} {O' : Type} {fin' : O' → Option Value} {o' : Option O'} {kk : O' → Option O} (n : Nat) (hC : CtS y bytes maxL ret fr' lo' vals fin' o') (hw : GoodIn lw_all (va_wsS own index y (ws_ y bytes maxL ret)))
    (hdd : y.cls ≠ "java/lang/invoke/MethodHandle" ∧ y.cls ≠ "java/lang/invoke/VarHandle" ∧ (parseMethodDescriptor y.desc).map (fun d => d.parameters.length) = some vals.length) (hroom : fr' + 1 ≤ fr ∧ 8 + (maxL + 11) + lo' ≤ lo) (hstk : stk = vals.reverse ++ st) (hcat : (st.map fun v => v.category).sum ≤ 8)
    (hd : decode cc pc = .ok (.invokestatic index, 3)) (hn : pc + 3 = n) (g : ∀ r, o' = some r → G p l e fr lo s m args below meth c nL c0 Rep cnt A n ls ((fin' r).toList ++ st) σ q (kk r)) : G p l e fr lo s m args below meth c nL c0 Rep cnt A pc ls stk σ q (o'.bind kk) := by
  subst hn
  intro out ho
  obtain ⟨r, hr, hk⟩ := Option.bind_eq_some_iff.mp ho
  refine g_runS (y := y) (mt := fin' r) hstk (fun R H locs ce sl la hfr hlo hce hsl hl => ?_) (g r hr) out hk
  exact va_runS (As := vals) (rest := st) K (hC l r hr) (va_cwS vals.length K.2.2.2.2 hw rfl rfl rfl hdd (by rw [hfr, hlo]; exact hroom)) ⟨fun a U g mk q => ⟨q.1, trivial⟩, fun U hU hW => ⟨rfl, trivial⟩⟩ rfl rfl hl.1 hstk (lv_room hcat) hd ⟨hce, hsl⟩
theorem g_callSN (K : CallFix p m c cc nL s args lw_all own) {y : MethodName} {host : String} {bytes : ByteArray} {maxL index : Nat} {ret : Option FieldType} {fr' lo' : Nat} {vals stk : List Value} {O' : Type} {fin' : O' → Option Value} {o' : Option O'} {kk : O' → Option O} (n : Nat) (hC : CtS y bytes maxL ret fr' lo' vals fin' o') (hlink : va_Nw (.methodLinkNest own index y host) s) (hcode : Cond.code y bytes maxL ret ∈ lw_all) (hini : Cond.initialized y.cls ∈ lw_all) (hstat : Cond.static y ∈ lw_all)
    (hdd : y.cls ≠ "java/lang/invoke/MethodHandle" ∧ y.cls ≠ "java/lang/invoke/VarHandle" ∧ (parseMethodDescriptor y.desc).map (fun d => d.parameters.length) = some vals.length) (hroom : fr' + 1 ≤ fr ∧ 8 + (maxL + 11) + lo' ≤ lo) (hstk : stk = vals.reverse ++ st) (hcat : (st.map fun v => v.category).sum ≤ 8)
    (hd : decode cc pc = .ok (.invokestatic index, 3)) (hn : pc + 3 = n) (g : ∀ r, o' = some r → G p l e fr lo s m args below meth c nL c0 Rep cnt A n ls ((fin' r).toList ++ st) σ q (kk r)) : G p l e fr lo s m args below meth c nL c0 Rep cnt A pc ls stk σ q (o'.bind kk) := by
  subst hn
  intro out ho
  obtain ⟨r, hr, hk⟩ := Option.bind_eq_some_iff.mp ho
  refine g_runS (y := y) (mt := fin' r) hstk (fun R H locs ce sl la hfr hlo hce hsl hl => ?_) (g r hr) out hk
  exact va_runSN (As := vals) (rest := st) K (hC l r hr) ⟨va_cnB vals.length K.2.2.2.2 (lw_meth hcode) rfl rfl rfl hlink (K.2.2.2.2 _ hini) hdd (by rw [hfr, hlo]; exact hroom), K.2.2.2.2 _ hstat, trivial⟩ ⟨fun a U g mk q => ⟨q.1, trivial⟩, fun U hU hW => ⟨rfl, trivial⟩⟩ rfl rfl hl.1 hstk (lv_room hcat) hd ⟨hce, hsl⟩

theorem g_mmax (K : CallFix p m c cc nL s args lw_all own) {x y : Int32} {index : Nat} {o : Option O} (n : Nat) (hlink : Cond.methodLink own index Lib.Math.max.name ∈ lw_all) (hstat : Cond.static Lib.Math.max.name ∈ lw_all) (hini : Cond.initialized "java/lang/Math" ∈ lw_all) (hcode : Cond.code Lib.Math.max.name Lib.Math.max.code 2 (some .int) ∈ lw_all) (hroom : 1 ≤ fr ∧ 21 ≤ lo) (hcat : (st.map fun v => v.category).sum ≤ 8) (hd : decode cc pc = .ok (.invokestatic index, 3)) (hn : pc + 3 = n) (g : G p l e fr lo s m args below meth c nL c0 Rep cnt A n ls (.int (imax x y) :: st) σ q o) : G p l e fr lo s m args below meth c nL c0 Rep cnt A pc ls (.int y :: .int x :: st) σ q o := by
  subst hn
  intro out ho h1 h2
  have g' := g out ho h1 h2
  exact ⟨g'.1, fun H locs la hR hS hl => va_mmax K.1 K.2.1 (K.2.2.1.trans hl.1.symm) K.2.2.2.1 (K.2.2.2.2 _ hlink) (K.2.2.2.2 _ hstat) (K.2.2.2.2 _ hini) (K.2.2.2.2 _ hcode) hroom.1 (Nat.le_trans (Nat.add_le_add_right hcat 13) hroom.2) (Nat.sub_le_sub_right g'.1.1 _) (Nat.sub_le_sub_right g'.1.2 _) hd (g'.2 H locs la hR hS hl)⟩
theorem g_mmin (K : CallFix p m c cc nL s args lw_all own) {x y : Int32} {index : Nat} {o : Option O} (n : Nat) (hlink : Cond.methodLink own index Lib.Math.min.name ∈ lw_all) (hstat : Cond.static Lib.Math.min.name ∈ lw_all) (hini : Cond.initialized "java/lang/Math" ∈ lw_all) (hcode : Cond.code Lib.Math.min.name Lib.Math.min.code 2 (some .int) ∈ lw_all) (hroom : 1 ≤ fr ∧ 21 ≤ lo) (hcat : (st.map fun v => v.category).sum ≤ 8) (hd : decode cc pc = .ok (.invokestatic index, 3)) (hn : pc + 3 = n) (g : G p l e fr lo s m args below meth c nL c0 Rep cnt A n ls (.int (imin x y) :: st) σ q o) : G p l e fr lo s m args below meth c nL c0 Rep cnt A pc ls (.int y :: .int x :: st) σ q o := by
  subst hn
  intro out ho h1 h2
  have g' := g out ho h1 h2
  exact ⟨g'.1, fun H locs la hR hS hl => va_mmin K.1 K.2.1 (K.2.2.1.trans hl.1.symm) K.2.2.2.1 (K.2.2.2.2 _ hlink) (K.2.2.2.2 _ hstat) (K.2.2.2.2 _ hini) (K.2.2.2.2 _ hcode) hroom.1 (Nat.le_trans (Nat.add_le_add_right hcat 13) hroom.2) (Nat.sub_le_sub_right g'.1.1 _) (Nat.sub_le_sub_right g'.1.2 _) hd (g'.2 H locs la hR hS hl)⟩
theorem g_mabs (K : CallFix p m c cc nL s args lw_all own) {x : Int32} {index : Nat} {o : Option O} (n : Nat) (hlink : Cond.methodLink own index Lib.Math.abs.name ∈ lw_all) (hstat : Cond.static Lib.Math.abs.name ∈ lw_all) (hini : Cond.initialized "java/lang/Math" ∈ lw_all) (hcode : Cond.code Lib.Math.abs.name Lib.Math.abs.code 1 (some .int) ∈ lw_all) (hroom : 1 ≤ fr ∧ 21 ≤ lo) (hcat : (st.map fun v => v.category).sum ≤ 8) (hd : decode cc pc = .ok (.invokestatic index, 3)) (hn : pc + 3 = n) (g : G p l e fr lo s m args below meth c nL c0 Rep cnt A n ls (.int (iabs x) :: st) σ q o) : G p l e fr lo s m args below meth c nL c0 Rep cnt A pc ls (.int x :: st) σ q o := by
  subst hn
  intro out ho h1 h2
  have g' := g out ho h1 h2
  exact ⟨g'.1, fun H locs la hR hS hl => va_mabs K.1 K.2.1 (K.2.2.1.trans hl.1.symm) K.2.2.2.1 (K.2.2.2.2 _ hlink) (K.2.2.2.2 _ hstat) (K.2.2.2.2 _ hini) (K.2.2.2.2 _ hcode) hroom.1 (Nat.le_trans (Nat.add_le_add_right hcat 13) hroom.2) (Nat.sub_le_sub_right g'.1.1 _) (Nat.sub_le_sub_right g'.1.2 _) hd (g'.2 H locs la hR hS hl)⟩
end GC

section GSW
variable {p : Program} {l : Launch} {e : Env} {fr lo : Nat} {s : State} {m : MethodId} {args : Array Value} {below : List Frame} {meth : Method} {c : Code} {nL : Nat} {c0 : Nat × Nat} {S O : Type} {Rep : S → Heap → Prop} {cnt : S → Nat × Nat} {A : Nat → Prop} {pc : Nat} {ls : List (Nat × Value)} {st : List Value} {σ : S} {q : O → En} {cc : ByteArray} {own : String} {Ts : List Cond}

theorem g_tcase (K : CallFix p m c cc nL s args Ts own) {x : Int32} (v : Int32) {dflt lo2 hi off : Int} {offs : Array Int} {len : Nat} {o1 o2 : Option O} {inst : Decidable (x = v)} (t : Nat) (hd : decode cc pc = .ok (.tableswitch dflt lo2 hi offs, len)) (h1 : ¬ v.toInt < lo2) (h2 : ¬ hi < v.toInt) (ho : offs[(v.toInt - lo2).toNat]? = some off) (ht : (pc : Int) + off = (t : Int)) (gt : x = v → G p l e fr lo s m args below meth c nL c0 Rep cnt A t ls st σ q o1) (gf : ¬ x = v → G p l e fr lo s m args below meth c nL c0 Rep cnt A pc ls (.int x :: st) σ q o2) : G p l e fr lo s m args below meth c nL c0 Rep cnt A pc ls (.int x :: st) σ q (@ite _ (x = v) inst o1 o2) := by
  intro out hoo a1 a2
  by_cases hc : x = v
  · rw [if_pos hc] at hoo
    have g' := gt hc out hoo a1 a2
    subst hc
    exact ⟨g'.1, fun H locs la hR hS hl => lv_tableIn K.1 K.2.1 hd h1 h2 ho ht (g'.2 H locs la hR hS hl)⟩
  · rw [if_neg hc] at hoo
    exact gf hc out hoo a1 a2
theorem g_tdef (K : CallFix p m c cc nL s args Ts own) {x : Int32} {dflt lo2 hi : Int} {offs : Array Int} {len : Nat} {o : Option O} (t : Nat) (hd : decode cc pc = .ok (.tableswitch dflt lo2 hi offs, len)) (h : x.toInt < lo2 ∨ hi < x.toInt) (ht : (pc : Int) + dflt = (t : Int)) (g : G p l e fr lo s m args below meth c nL c0 Rep cnt A t ls st σ q o) : G p l e fr lo s m args below meth c nL c0 Rep cnt A pc ls (.int x :: st) σ q o := by
  intro out hoo a1 a2
  have g' := g out hoo a1 a2
  exact ⟨g'.1, fun H locs la hR hS hl => lv_tableOut K.1 K.2.1 hd h ht (g'.2 H locs la hR hS hl)⟩
theorem g_lcase (K : CallFix p m c cc nL s args Ts own) {x : Int32} (v : Int32) {dflt off : Int} {ps : Array (Int × Int)} {len : Nat} {o1 o2 : Option O} {inst : Decidable (x = v)} (t : Nat) (hd : decode cc pc = .ok (.lookupswitch dflt ps, len)) (hp : (ps.toList.zip (ps.toList.drop 1)).all (fun (a, next) => a.1 < next.1) = true) (ho : Op.lookupswitch.offset ps.toList dflt v.toInt = off) (ht : (pc : Int) + off = (t : Int)) (gt : x = v → G p l e fr lo s m args below meth c nL c0 Rep cnt A t ls st σ q o1) (gf : ¬ x = v → G p l e fr lo s m args below meth c nL c0 Rep cnt A pc ls (.int x :: st) σ q o2) : G p l e fr lo s m args below meth c nL c0 Rep cnt A pc ls (.int x :: st) σ q (@ite _ (x = v) inst o1 o2) := by
  intro out hoo a1 a2
  by_cases hc : x = v
  · rw [if_pos hc] at hoo
    have g' := gt hc out hoo a1 a2
    subst hc
    exact ⟨g'.1, fun H locs la hR hS hl => lv_lookup K.1 K.2.1 hd hp ho ht (g'.2 H locs la hR hS hl)⟩
  · rw [if_neg hc] at hoo
    exact gf hc out hoo a1 a2
theorem g_ldef (K : CallFix p m c cc nL s args Ts own) {x : Int32} {dflt : Int} {ps : Array (Int × Int)} {len : Nat} {o : Option O} (t : Nat) (hd : decode cc pc = .ok (.lookupswitch dflt ps, len)) (hp : (ps.toList.zip (ps.toList.drop 1)).all (fun (a, next) => a.1 < next.1) = true) (ho : Op.lookupswitch.offset ps.toList dflt x.toInt = dflt) (ht : (pc : Int) + dflt = (t : Int)) (g : G p l e fr lo s m args below meth c nL c0 Rep cnt A t ls st σ q o) : G p l e fr lo s m args below meth c nL c0 Rep cnt A pc ls (.int x :: st) σ q o := by
  intro out hoo a1 a2
  have g' := g out hoo a1 a2
  exact ⟨g'.1, fun H locs la hR hS hl => lv_lookup K.1 K.2.1 hd hp ho ht (g'.2 H locs la hR hS hl)⟩
end GSW

/-! ===== GingerRents: its cells by kind, pointers and numbers ===== -/
def clX : List vw_C := [(RX0, TX0, 19), (RX1, TX1, 26), (RX2, TX2, 2), (RX3, TX3, 8), (RX4, TX4, 75), (RX5, TX5, 9), (RX6, TX6, 8), (RX8, TX8, 1), (RX9, TX9, 1), (RX10, TX10, 3), (RX11, TX11, 1), (RX12, TX12, 3), (RX14, TX14, 2), (RX15, TX15, 2), (RX16, TX16, 3), (RX17, TX17, 4), (RX18, TX18, 2), (RX19, TX19, 2), (RJ2, TJ2, 3)]
abbrev Ptr : Type := Nat → Nat → Option Nat
abbrev Kd : Type := Nat → Nat × Nat × Nat
abbrev Cs : Type := Nat → ClassId
/-- a reference as a number -/
def dcO (n : Nat) : Option Nat := match n with
  | 0 => none
  | k + 1 => some k
def cellE (cs : Cs) (z : Nat) (k : Nat × Nat × Nat) (a : Nat) (p : Nat → Option Nat) (i : Nat → Int32) : va_E := match k.1 with
  | 0 => .inr (0, [.ref (a + 1), .int (i 1), .int (i 2), .int (i 3), .ref (a + 2), .ref (a + 271), .ref (a + 540), .ref (a + 809), .int (i 8), .int (i 9), .ref (a + 2424), .ref (a + 2425), .ref (a + 2436), .ref (a + 2437), .ref (a + 2438), .ref (a + 2439), .int (i 16), .ref (a + 2440), .ref (a + 2462)])
  | 1 => .inr (1, [.ref (a + 1), .ref (a + 2), .ref (a + 153), .ref (a + 164), .ref (a + 174), .ref (a + 181), .ref (a + 191), .ref (a + 209), .ref (a + 217), .ref (a + 231), va_rf (p 10), va_rf (p 11), va_rf (p 12), va_rf (p 13), .int (i 14), .int (i 15), .int (i 16), .int (i 17), .int (i 18), .int (i 19), .int (i 20), .int (i 21), .int (i 22), .int (i 23), va_rf (p 24), .int (i 25)])
  | 2 => .inr (2, [.ref (a + 1), .int (i 1)])
  | 3 => .inr (3, [.ref (a + 1), .int (i 1), .int (i 2), .int (i 3), .int (i 4), .int (i 5), .int (i 6), .int (i 7)])
  | 5 => .inr (5, [.int (i 0), .ref (a + 1), .int (i 2), .int (i 3), .int (i 4), .int (i 5), .int (i 6), .int (i 7), .ref z])
  | 6 => .inr (6, [.ref a, va_rf (dcO (cs 301)), va_rf (dcO (cs 302)), .null, .null, .int (i 5), .int (i 6), .int (i 7)])
  | 7 => .inr (7, [.int (i 0)])
  | 8 => .inr (8, [.int (i 0)])
  | 9 => .inr (9, [va_rf (p 0), va_rf (p 1), .int (i 2)])
  | 10 => .inr (10, [va_rf (p 0)])
  | 11 => .inr (11, [.int (i 0), va_rf (p 1), va_rf (p 2)])
  | 12 => .inr (12, [.int (i 0), .int (i 1)])
  | 13 => .inr (13, [.int (i 0), .int (i 1)])
  | 14 => .inr (14, [.int (i 0), .int (i 1), .int (i 2)])
  | 15 => .inr (15, [.int (i 0), .int (i 1), .int (i 2), .int (i 3)])
  | 16 => .inr (16, [.int (i 0), .int (i 1)])
  | 17 => .inr (17, [.int (i 0), .int (i 1)])
  | 18 => .inr (18, [.int (i 0), va_rf (p 1), .int (i 2)])
  | 20 => .inl (cs 0, k.2.1, .inl i)
  | 21 => .inl (cs 1, k.2.1, .inl i)
  | 22 => .inl (cs 2, k.2.1, .inr (.inr (.inr (.inr (fun j => some (a + 1 + j))))))
  | 23 => .inl (cs 3, k.2.1, .inr (.inr (.inr (.inr (fun j => some (a + 244 + 2 * j))))))
  | 24 => .inl (cs 4, k.2.1, .inr (.inr (.inr (.inr p))))
  | 25 => .inl (cs 5, k.2.1, .inr (.inr (.inr (.inr p))))
  | 40 => .inr (0, [va_rf (p 0), .int (i 1), .int (i 2), .int (i 3), va_rf (p 4), va_rf (p 5), va_rf (p 6), va_rf (p 7), .int (i 8), .int (i 9), va_rf (p 10), va_rf (p 11), va_rf (p 12), va_rf (p 13), va_rf (p 14), va_rf (p 15), .int (i 16), va_rf (p 17), va_rf (p 18)])
  | 41 => .inr (1, [va_rf (p 0), va_rf (p 1), va_rf (p 2), va_rf (p 3), va_rf (p 4), va_rf (p 5), va_rf (p 6), va_rf (p 7), va_rf (p 8), va_rf (p 9), va_rf (p 10), va_rf (p 11), va_rf (p 12), va_rf (p 13), .int (i 14), .int (i 15), .int (i 16), .int (i 17), .int (i 18), .int (i 19), .int (i 20), .int (i 21), .int (i 22), .int (i 23), va_rf (p 24), .int (i 25)])
  | 42 => .inr (2, [va_rf (p 0), .int (i 1)])
  | 43 => .inr (3, [va_rf (p 0), .int (i 1), .int (i 2), .int (i 3), .int (i 4), .int (i 5), .int (i 6), .int (i 7)])
  | 44 => .inr (4, [.int (i 0), va_rf (p 1), va_rf (p 2), .int (i 3), va_rf (p 4), .int (i 5), .int (i 6), va_rf (p 7), va_rf (p 8), va_rf (p 9), va_rf (p 10), .int (i 11), .int (i 12), .int (i 13), .int (i 14), .int (i 15), va_rf (p 16), va_rf (p 17), va_rf (p 18), va_rf (p 19), va_rf (p 20), va_rf (p 21), va_rf (p 22), va_rf (p 23), .int (i 24), .int (i 25), .int (i 26), va_rf (p 27), .int (i 28), .int (i 29), .int (i 30), .int (i 31), .int (i 32), .int (i 33), va_rf (p 34), .int (i 35), va_rf (p 36), .int (i 37), va_rf (p 38), va_rf (p 39), va_rf (p 40), va_rf (p 41), .int (i 42), va_rf (p 43), va_rf (p 44), .int (i 45), va_rf (p 46), va_rf (p 47), va_rf (p 48), .int (i 49), va_rf (p 50), .int (i 51), va_rf (p 52), va_rf (p 53), .int (i 54), va_rf (p 55), va_rf (p 56), .int (i 57), va_rf (p 58), va_rf (p 59), va_rf (p 60), va_rf (p 61), .int (i 62), va_rf (p 63), va_rf (p 64), va_rf (p 65), .int (i 66), va_rf (p 67), va_rf (p 68), va_rf (p 69), va_rf (p 70), .int (i 71), .int (i 72), .int (i 73), va_rf (p 74)])
  | 45 => .inr (5, [.int (i 0), va_rf (p 1), .int (i 2), .int (i 3), .int (i 4), .int (i 5), .int (i 6), .int (i 7), va_rf (p 8)])
  | 46 => .inr (6, [va_rf (p 0), va_rf (p 1), va_rf (p 2), va_rf (p 3), va_rf (p 4), .int (i 5), .int (i 6), .int (i 7)])
  | 62 => .inl (cs 2, k.2.1, .inr (.inr (.inr (.inr p))))
  | 63 => .inl (cs 3, k.2.1, .inr (.inr (.inr (.inr p))))
  | _ => .inr (2, [va_rf (p 0), .int (i 1)])

def xA (z : Nat) : Nat → Prop := fun q => z ≤ q ∧ (q < z + 2463 ∨ z + 2508 ≤ q)
def xRep (D : va_G) (cs : Cs) (z sz : Nat) (kd : Kd) (σ : Ptr × Mem) (H : Heap) : Prop := H.size = sz ∧ ∀ a, (kd a).1 < 90 → va_at D clX (a, cellE cs z (kd a) a (σ.1 a) (σ.2 a)) H
def xtys (cs : Cs) : List (ClassId × FieldType) := [(cs 0, .int), (cs 1, .byte), (cs 2, .array .int), (cs 3, .object RX3), (cs 4, .object RX1), (cs 5, .object "java/lang/Object")]
def upA {α : Type} (f : Nat → α) (a : Nat) (x : α) : Nat → α := fun b => if b = a then x else f b
def upP (P : Ptr) (a i : Nat) (r : Option Nat) : Ptr := fun b => if b = a then va_up (P b) i r else P b
def ix (n : Nat) (i : Int32) : Option Nat := if i < 0 ∨ n ≤ i.toNatClampNeg then none else some i.toNatClampNeg
/-- a pointer read: not null, and of that kind -/
def pk (kd : Kd) (r : Option Nat) (k : Nat × Nat × Nat) : Option Nat := match r with
  | none => none
  | some b => if kd b = k then some b else none
theorem pk_some {kd : Kd} {r : Option Nat} {k : Nat × Nat × Nat} {b : Nat} (h : pk kd r k = some b) : r = some b ∧ kd b = k := by
  unfold pk at h
  cases r with
  | none => cases h
  | some x =>
    dsimp only at h
    split at h
    · next hk => cases h; exact ⟨rfl, hk⟩
    · cases h
theorem ix_some {n : Nat} {i : Int32} {j : Nat} (h : ix n i = some j) : vp_in i n ∧ i.toNatClampNeg = j ∧ j < n := by
  unfold ix at h
  split at h
  · cases h
  · next hi =>
    cases h
    exact ⟨hi, rfl, Nat.not_le.mp fun q => hi (Or.inr q)⟩

def pix (kd : Kd) (P : Ptr) (a n : Nat) (i : Int32) (k : Nat × Nat × Nat) : Option Nat := (ix n i).bind fun j => pk kd (P a j) k
def wrP (P : Ptr) (a n : Nat) (i : Int32) (b : Nat) : Option Ptr := (ix n i).map fun j => upP P a j (some b)

/-- a pointer read: not null, of that kind, whatever its length -/
def pkk (kd : Kd) (r : Option Nat) (k : Nat) : Option Nat := match r with
  | none => none
  | some b => if (kd b).1 = k then some b else none
theorem pkk_some {kd : Kd} {r : Option Nat} {k : Nat} {b : Nat} (h : pkk kd r k = some b) : r = some b ∧ kd b = (k, (kd b).2.1, (kd b).2.2) := by
  unfold pkk at h
  cases r with
  | none => cases h
  | some x =>
    dsimp only at h
    split at h
    · next hk => cases h; exact ⟨rfl, by rw [← hk]⟩
    · cases h
def pio (P : Ptr) (a n : Nat) (i : Int32) : Option Nat := (ix n i).bind fun j => P a j
def isEn (kd : Kd) (b : Nat) : Prop := kd b = (12, 0, 0) ∨ kd b = (13, 0, 0) ∨ kd b = (14, 0, 0) ∨ kd b = (15, 0, 0) ∨ kd b = (16, 0, 0) ∨ kd b = (17, 0, 0)
def ckE (kd : Kd) (b : Nat) : Option Nat := if kd b = (12, 0, 0) ∨ kd b = (13, 0, 0) ∨ kd b = (14, 0, 0) ∨ kd b = (15, 0, 0) ∨ kd b = (16, 0, 0) ∨ kd b = (17, 0, 0) then some b else none
theorem lw_U {own : String} {idx : Nat} {C owner : String} {x y : MethodName} {b : ByteArray} {L : Nat} {r : Option FieldType} (h1 : Cond.methodLink own idx x ∈ lw_all) (h2 : Cond.sameMethod x.cls owner x.name x.desc ∈ lw_all) (h3 : Cond.selects C x y ∈ lw_all) (h4 : Cond.instanceMethod y ∈ lw_all) (h5 : Cond.initialized y.cls ∈ lw_all) (h6 : Cond.code y b L r ∈ lw_all) : GoodIn lw_all (va_wsU own idx C owner x y (ws_ y b L r)) := by
  refine lw_app ?_ (lw_meth h6)
  intro w hw
  simp only [List.mem_cons, List.not_mem_nil, or_false] at hw
  rcases hw with e | e | e | e | e
  · rw [e]; exact h1
  · rw [e]; exact h2
  · rw [e]; exact h3
  · rw [e]; exact h4
  · rw [e]; exact h5
theorem lw_F {own : String} {idx : Nat} {C : String} {x y : MethodName} {b : ByteArray} {L : Nat} {r : Option FieldType} (h1 : Cond.methodLink own idx x ∈ lw_all) (h3 : Cond.selects C x y ∈ lw_all) (h4 : Cond.instanceMethod y ∈ lw_all) (h5 : Cond.initialized y.cls ∈ lw_all) (h6 : Cond.code y b L r ∈ lw_all) : GoodIn lw_all (va_wsF own idx C x y (ws_ y b L r)) := by
  refine lw_app ?_ (lw_meth h6)
  intro w hw
  simp only [List.mem_cons, List.not_mem_nil, or_false] at hw
  rcases hw with e | e | e | e
  · rw [e]; exact h1
  · rw [e]; exact h3
  · rw [e]; exact h4
  · rw [e]; exact h5
def zb (v : Int32) : Option Unit := if v = 0 ∨ v = 1 then some () else none
theorem zb_nar {v : Int32} (h : v = 0 ∨ v = 1) : narrow .boolean (.int v) = .int v := by rcases h with rfl | rfl <;> rfl
theorem zb_fit {v : Int32} (h : v = 0 ∨ v = 1) : fits .boolean (.int v) = true := by rcases h with rfl | rfl <;> rfl
theorem tne {x : Int32} {k : Nat} (hk : k < 2 ^ 31) (h : ¬ x = nI k) : x.toInt ≠ k := fun e => h (Int32.toInt_inj.mp (by rw [e, nI_toInt hk]))

def strL : List (String × Nat × String) := [("GingerRents$Reader", 81, "when"), ("GingerRents$Reader", 83, "or"), ("GingerRents$Reader", 85, "and"), ("GingerRents$Reader", 87, "not"), ("GingerRents$Reader", 89, "rent"), ("GingerRents$Reader", 91, "gnaws"), ("GingerRents$Reader", 93, "melts"), ("GingerRents$Reader", 53, "wall"), ("GingerRents$Reader", 59, "sum"), ("GingerRents$Reader", 61, "almonds"), ("GingerRents$Reader", 63, "teeth"), ("GingerRents$Reader", 65, "hard"), ("GingerRents$Reader", 67, "icing"), ("GingerRents$Reader", 69, "lodgers"), ("GingerRents$Reader", 71, "door"), ("GingerRents$Reader", 73, "age"), ("GingerRents$Reader", 75, "rain"), ("GingerRents$Reader", 77, "frost"), ("GingerRents$Reader", 79, "quarter"), ("GingerRents$Reader", 98, "in"), ("GingerRents$Reader", 111, "thaw"), ("GingerRents$Reader", 100, "ice"), ("GingerRents$Reader", 102, "bake"), ("GingerRents$Reader", 104, "wed"), ("GingerRents$Reader", 106, "raze"), ("GingerRents$Reader", 116, "house"), ("GingerRents$Reader", 118, "next")]
def strN : List Nat := [4, 2, 3, 3, 4, 5, 5, 4, 3, 7, 5, 4, 5, 7, 4, 3, 4, 5, 7, 2, 4, 3, 4, 3, 4, 5, 4]
def strB : List (List Int32) := [[119, 104, 101, 110], [111, 114], [97, 110, 100], [110, 111, 116], [114, 101, 110, 116], [103, 110, 97, 119, 115], [109, 101, 108, 116, 115], [119, 97, 108, 108], [115, 117, 109], [97, 108, 109, 111, 110, 100, 115], [116, 101, 101, 116, 104], [104, 97, 114, 100], [105, 99, 105, 110, 103], [108, 111, 100, 103, 101, 114, 115], [100, 111, 111, 114], [97, 103, 101], [114, 97, 105, 110], [102, 114, 111, 115, 116], [113, 117, 97, 114, 116, 101, 114], [105, 110], [116, 104, 97, 119], [105, 99, 101], [98, 97, 107, 101], [119, 101, 100], [114, 97, 122, 101], [104, 111, 117, 115, 101], [110, 101, 120, 116]]

def aoL : List FieldType := [.object "GingerRents$House", .object "GingerRents$Borough", .object "java/lang/Object", .array .int]
theorem ao_go {s U : State} (hvm : s.vm.Alike U.vm) {ty : FieldType} (h : va_Nw (.arrayOver ty) s) : va_Nw (.arrayOver ty) U := by
  have e : (Cond.arrayOver ty).before #[] (s.setVm U.vm) = (Cond.arrayOver ty).before #[] s := Cond.arrayOver_setVmC hvm ty
  have e2 : (Cond.arrayOver ty).before #[] (s.setVm U.vm) = (Cond.arrayOver ty).before #[] U := by
    first
      | rfl
      | (simp only [Cond.before, Cond.holds, Cond.value]; rfl)
      | (cases ty <;> simp only [Cond.before, Cond.holds, Cond.value] <;> rfl)
  unfold va_Nw at h ⊢
  rw [← e2, e]
  exact h
/-- a static reference, by its number -/
def xZo (C n d : String) (k : Nat) (A : Nat → Prop) (U : State) : Prop := va_Z C n d (va_rf (dcO k)) A U U.heap ∧ vx_L C n d A U U.heap
/-- what lies in the old heap: the string constants, statics -/
def xO (cs : Cs) (z : Nat) (U : State) : Prop :=
  vk_S 27 strN strB (fun i => cs (100 + i)) (fun i => cs (200 + i)) (xA z) U U.heap ∧ (∀ (i : Nat) (w : String × Nat × String), strL[i]? = some w → vk_R w.1 w.2.1 w.2.2 (cs (100 + i)) U) ∧
  va_Z "java/lang/String" "COMPACT_STRINGS" "Z" (.int 1) (xA z) U U.heap ∧ va_Z "java/util/ArrayList" "DEFAULTCAPACITY_EMPTY_ELEMENTDATA" "[Ljava/lang/Object;" (.ref (cs 300)) (xA z) U U.heap ∧ va_T (.object "java/lang/Object") (cs 300) 0 (fun _ => .null) (xA z) U U.heap ∧
  va_Zq "jdk/internal/util/Preconditions" "SIOOBE_FORMATTER" "Ljava/util/function/BiFunction;" (xA z) U U.heap ∧ xZo "java/lang/Throwable" "UNASSIGNED_STACK" "[Ljava/lang/StackTraceElement;" (cs 301) (xA z) U ∧ (xZo "java/lang/Throwable" "SUPPRESSED_SENTINEL" "Ljava/util/List;" (cs 302) (xA z) U ∧ va_Mi "[Ljava/lang/Object;" (cs 303) U ∧ va_Dc U) ∧ ∀ ty ∈ aoL, va_Nw (.arrayOver ty) U
theorem xO.go {cs : Cs} {z : Nat} {s U : State} (hvm : s.vm.Alike U.vm) (hR : ∀ (own tx : String) (k a : Nat), vk_R own k tx a s → vk_R own k tx a U) (hq : ∀ a : Nat, a < s.heap.size → ¬ xA z a → U.heap[a]? = s.heap[a]?) (h : xO cs z s) : xO cs z U :=
  ⟨(h.1.moved hvm).kept hq, fun i w hw => hR _ _ _ _ (h.2.1 i w hw), (h.2.2.1.moved hvm).kept hq, (h.2.2.2.1.moved hvm).kept hq, (h.2.2.2.2.1.moved hvm).kept hq, va_Zq.kept (va_Zq.moved hvm h.2.2.2.2.2.1) hq, ⟨(h.2.2.2.2.2.2.1.1.moved hvm).kept hq, (h.2.2.2.2.2.2.1.2.moved hvm).kept hq⟩, ⟨⟨(h.2.2.2.2.2.2.2.1.1.1.moved hvm).kept hq, (h.2.2.2.2.2.2.2.1.1.2.moved hvm).kept hq⟩, va_Mi.moved hvm h.2.2.2.2.2.2.2.1.2.1, va_Dc.moved hvm h.2.2.2.2.2.2.2.1.2.2⟩, fun ty hty => ao_go hvm (h.2.2.2.2.2.2.2.2 ty hty)⟩
theorem xO.warm {cs : Cs} {z : Nat} {s U : State} {H : Heap} {locs : List Loc} (hW : s.WarmedH U.vm) (hS : va_S (xA z) s.heap H locs) (hU : U.heap = H) (h : xO cs z s) : xO cs z U := h.go hW.alike (fun _ _ _ _ h => h.warm hW) (fun a ha hA => by rw [hU]; exact hS.2.1 a ha hA)
theorem xO.same {cs : Cs} {z : Nat} {s U : State} (hv : s.vm = U.vm) (hh : s.heap = U.heap) (h : xO cs z s) : xO cs z U := h.go (by rw [hv]; exact Vm.Alike.refl U.vm) (fun _ _ _ _ h => h.same hv.symm) (fun a _ _ => by rw [hh])

def nestF : List (String × Nat × String × String × String) := [("GingerRents", 299, "GingerRents$Rows", "many", "I"), ("GingerRents", 193, "GingerRents$House", "wall", "[I"), ("GingerRents", 178, "GingerRents$House", "almonds", "I"), ("GingerRents", 181, "GingerRents$House", "teeth", "I"), ("GingerRents", 184, "GingerRents$House", "hard", "I"), ("GingerRents", 236, "GingerRents$House", "icing", "I"), ("GingerRents", 187, "GingerRents$House", "lodgers", "I"), ("GingerRents", 242, "GingerRents$House", "age", "I"), ("GingerRents", 239, "GingerRents$House", "hasDoor", "Z"), ("GingerRents", 154, "GingerRents$Borough", "house", "[LGingerRents$House;"), ("GingerRents", 252, "GingerRents$Borough", "book", "[[I"), ("GingerRents", 284, "GingerRents$Borough", "pieces", "LGingerRents$Rows;"), ("GingerRents", 308, "GingerRents$Borough", "doughs", "LGingerRents$Rows;"), ("GingerRents", 317, "GingerRents$Borough", "marks", "LGingerRents$Rows;"), ("GingerRents", 326, "GingerRents$Borough", "bites", "LGingerRents$Rows;"), ("GingerRents", 336, "GingerRents$Borough", "crumbs", "LGingerRents$Rows;"), ("GingerRents", 339, "GingerRents$Borough", "loaves", "LGingerRents$Rows;"), ("GingerRents", 352, "GingerRents$Borough", "heirs", "LGingerRents$Rows;"), ("GingerRents", 358, "GingerRents$Borough", "members", "LGingerRents$Rows;"), ("GingerRents", 94, "GingerRents$Borough", "law", "Ljava/util/ArrayList;"), ("GingerRents", 106, "GingerRents$Borough", "sky", "Ljava/util/ArrayList;"), ("GingerRents", 113, "GingerRents$Borough", "office", "Ljava/util/ArrayList;"), ("GingerRents", 120, "GingerRents$Borough", "nextTo", "[I"), ("GingerRents", 151, "GingerRents$Borough", "houses", "I"), ("GingerRents", 190, "GingerRents$Borough", "rain", "I"), ("GingerRents", 386, "GingerRents$Borough", "frost", "I"), ("GingerRents", 258, "GingerRents$Borough", "eaten", "I"), ("GingerRents", 389, "GingerRents$Borough", "gnawed", "I"), ("GingerRents", 223, "GingerRents$Borough", "quarter", "I"), ("GingerRents", 158, "GingerRents$Borough", "state", "I"), ("GingerRents", 249, "GingerRents$Borough", "lines", "I"), ("GingerRents", 126, "GingerRents$Borough", "nextLines", "I"), ("GingerRents", 34, "GingerRents$Borough", "isThought", "Z"), ("GingerRents", 123, "GingerRents$Reader", "told", "I"), ("GingerRents", 138, "GingerRents$Fault", "kind", "I"), ("GingerRents", 141, "GingerRents$Fault", "place", "I"), ("GingerRents$Borough", 130, "GingerRents$House", "wall", "[I"), ("GingerRents$Borough", 140, "GingerRents$House", "almonds", "I"), ("GingerRents$Borough", 143, "GingerRents$House", "teeth", "I"), ("GingerRents$Borough", 146, "GingerRents$House", "hard", "I"), ("GingerRents$Borough", 149, "GingerRents$House", "icing", "I"), ("GingerRents$Borough", 152, "GingerRents$House", "lodgers", "I"), ("GingerRents$Borough", 158, "GingerRents$House", "age", "I"), ("GingerRents$Borough", 155, "GingerRents$House", "hasDoor", "Z"), ("GingerRents$Borough", 170, "GingerRents$Line", "word", "I"), ("GingerRents$Borough", 183, "GingerRents$Line", "comesTo", "LGingerRents$Term;"), ("GingerRents$Borough", 173, "GingerRents$Line", "when", "LGingerRents$Term;"), ("GingerRents$Rain", 13, "GingerRents$Borough", "rain", "I"), ("GingerRents$Frost", 13, "GingerRents$Borough", "frost", "I"), ("GingerRents$Ice", 23, "GingerRents$House", "icing", "I"), ("GingerRents$Ice", 13, "GingerRents$Borough", "house", "[LGingerRents$House;"), ("GingerRents$Bake", 16, "GingerRents$Borough", "house", "[LGingerRents$House;"), ("GingerRents$Razing", 7, "GingerRents$Borough", "house", "[LGingerRents$House;"), ("GingerRents$Reader", 137, "GingerRents$Borough", "houses", "I"), ("GingerRents$Reader", 29, "GingerRents", "tape", "[B"), ("GingerRents$Reader", 26, "GingerRents", "taped", "I"), ("GingerRents$Reader", 133, "GingerRents", "borough", "LGingerRents$Borough;")]
def declL : List MethodName := [⟨"java/lang/Throwable", "<init>", "()V"⟩, ⟨"java/lang/Throwable", "<init>", "(Ljava/lang/String;)V"⟩, ⟨"java/lang/Exception", "<init>", "()V"⟩, ⟨"java/lang/Exception", "<init>", "(Ljava/lang/String;)V"⟩, ⟨"java/lang/Object", "getClass", "()Ljava/lang/Class;"⟩, ⟨"GingerRents$Entry", "comes", "(LGingerRents$Borough;)V"⟩, ⟨"GingerRents$Entry", "one", "()I"⟩, ⟨"GingerRents$Term", "of", "(LGingerRents$Asker;)I"⟩, ⟨"GingerRents$Asker", "fact", "(I)I"⟩]
def castL : List (String × String) := [("java/lang/Throwable", "java/lang/Object"), ("java/util/ArrayList", "java/lang/Object"), ("java/lang/String", "java/lang/Object"), ("GingerRents", "java/lang/Object"), ("GingerRents$Borough", "GingerRents$Asker"), ("GingerRents$Borough", "java/lang/Object"), ("GingerRents$Joined", "java/lang/Object"), ("GingerRents$Not", "java/lang/Object"), ("GingerRents$Line", "java/lang/Object"), ("GingerRents$Rain", "GingerRents$Entry"), ("GingerRents$Rain", "java/lang/Object"), ("GingerRents$Frost", "GingerRents$Entry"), ("GingerRents$Frost", "java/lang/Object"), ("GingerRents$Ice", "GingerRents$Entry"), ("GingerRents$Ice", "java/lang/Object"), ("GingerRents$Bake", "GingerRents$Entry"), ("GingerRents$Bake", "java/lang/Object"), ("GingerRents$Wedding", "GingerRents$Entry"), ("GingerRents$Wedding", "java/lang/Object"), ("GingerRents$Razing", "GingerRents$Entry"), ("GingerRents$Razing", "java/lang/Object"), ("GingerRents$Rows", "java/lang/Object"), ("GingerRents$House", "java/lang/Object"), ("GingerRentsModel", "java/lang/Object"), ("GingerRents$Reader", "java/lang/Object"), ("GingerRents$Fault", "GingerRents$Fault"), ("GingerRents$Fault", "java/lang/Object"), ("GingerRents$Fixed", "java/lang/Object"), ("GingerRents$Known", "java/lang/Object"), ("[B", "java/lang/Object"), ("[I", "java/lang/Object"), ("[LGingerRents$Borough;", "java/lang/Object"), ("[LGingerRents$House;", "java/lang/Object"), ("[Ljava/lang/Object;", "java/lang/Object"), ("[[I", "java/lang/Object")]
def nestM : List (String × Nat × MethodName) := [("GingerRents$Borough", 69, ⟨"GingerRents$House", "<init>", "()V"⟩), ("GingerRents$Borough", 186, ⟨"GingerRents", "bound", "(III)I"⟩), ("GingerRents$Joined", 3, ⟨"GingerRents$Term", "<init>", "()V"⟩), ("GingerRents$Not", 1, ⟨"GingerRents$Term", "<init>", "()V"⟩), ("GingerRents$Reader", 37, ⟨"GingerRents", "isIn", "(III)Z"⟩), ("GingerRents$Fixed", 1, ⟨"GingerRents$Term", "<init>", "()V"⟩), ("GingerRents$Known", 1, ⟨"GingerRents$Term", "<init>", "()V"⟩)]

def xN (cs : Cs) (z : Nat) (U : State) : Prop := (∀ w ∈ nestF, va_Nw (.fieldLinkNest w.1 w.2.1 w.2.2.1 w.2.2.2.1 w.2.2.2.2 "GingerRents") U) ∧ (∀ w ∈ nestM, va_Nw (.methodLinkNest w.1 w.2.1 w.2.2 "GingerRents") U) ∧ (∀ w ∈ declL, va_Nw (.declares w) U) ∧ (∀ w ∈ castL, va_Nw (.castable w.1 w.2) U) ∧ va_Fw RX1 ⟨"GingerRents$Asker", "fact", "(I)I"⟩ yX1_fact U ∧ xO cs z U
theorem xN.warm {cs : Cs} {z : Nat} {s U : State} {H : Heap} {locs : List Loc} (hW : s.WarmedH U.vm) (hS : va_S (xA z) s.heap H locs) (hU : U.heap = H) (h : xN cs z s) : xN cs z U := ⟨fun w hw => va_Nw.warmF hW (h.1 w hw), fun w hw => va_Nw.warmM hW (h.2.1 w hw), fun w hw => va_Nw.warmD hW (h.2.2.1 w hw), fun w hw => va_Nw.warmC hW (h.2.2.2.1 w hw), va_Fw.moved (by decide +kernel) hW.alike h.2.2.2.2.1, xO.warm hW hS hU h.2.2.2.2.2⟩
theorem xN.same {cs : Cs} {z : Nat} {s U : State} (hW : s.vm = U.vm) (hh : s.heap = U.heap) (h : xN cs z s) : xN cs z U := ⟨fun w hw => va_Nw.same rfl hW (h.1 w hw), fun w hw => va_Nw.same rfl hW (h.2.1 w hw), fun w hw => va_Nw.same rfl hW (h.2.2.1 w hw), fun w hw => va_Nw.same rfl hW (h.2.2.2.1 w hw), va_Fw.moved (by decide +kernel) (by rw [hW]; exact Vm.Alike.refl U.vm) h.2.2.2.2.1, xO.same hW hh h.2.2.2.2.2⟩
def xK (D : va_G) (cs : Cs) (z : Nat) (U : State) : Prop := va_K D clX (xtys cs) U ∧ xN cs z U
theorem xK.warm {D : va_G} {cs : Cs} {z : Nat} {s U : State} {H : Heap} {locs : List Loc} (hW : s.WarmedH U.vm) (hS : va_S (xA z) s.heap H locs) (hU : U.heap = H) (h : xK D cs z s) : xK D cs z U := ⟨va_K.moved hW.alike h.1, h.2.warm hW hS hU⟩
theorem xK.same {D : va_G} {cs : Cs} {z : Nat} {s U : State} (hW : s.vm = U.vm) (hh : s.heap = U.heap) (h : xK D cs z s) : xK D cs z U := ⟨va_K.moved (by rw [hW]; exact Vm.Alike.refl U.vm) h.1, h.2.same hW hh⟩

theorem nf_q213 {cs : Cs} {z : Nat} {U : State} (h : xN cs z U) : va_Nw (.fieldLinkNest "GingerRents" 299 "GingerRents$Rows" "many" "I" "GingerRents") U := h.1 ("GingerRents", 299, "GingerRents$Rows", "many", "I") (List.mem_of_getElem? (i := 0) rfl)
theorem nf_q254 {cs : Cs} {z : Nat} {U : State} (h : xN cs z U) : va_Nw (.fieldLinkNest "GingerRents" 193 "GingerRents$House" "wall" "[I" "GingerRents") U := h.1 ("GingerRents", 193, "GingerRents$House", "wall", "[I") (List.mem_of_getElem? (i := 1) rfl)
theorem nf_q257 {cs : Cs} {z : Nat} {U : State} (h : xN cs z U) : va_Nw (.fieldLinkNest "GingerRents" 178 "GingerRents$House" "almonds" "I" "GingerRents") U := h.1 ("GingerRents", 178, "GingerRents$House", "almonds", "I") (List.mem_of_getElem? (i := 2) rfl)
theorem nf_q260 {cs : Cs} {z : Nat} {U : State} (h : xN cs z U) : va_Nw (.fieldLinkNest "GingerRents" 181 "GingerRents$House" "teeth" "I" "GingerRents") U := h.1 ("GingerRents", 181, "GingerRents$House", "teeth", "I") (List.mem_of_getElem? (i := 3) rfl)
theorem nf_q263 {cs : Cs} {z : Nat} {U : State} (h : xN cs z U) : va_Nw (.fieldLinkNest "GingerRents" 184 "GingerRents$House" "hard" "I" "GingerRents") U := h.1 ("GingerRents", 184, "GingerRents$House", "hard", "I") (List.mem_of_getElem? (i := 4) rfl)
theorem nf_q267 {cs : Cs} {z : Nat} {U : State} (h : xN cs z U) : va_Nw (.fieldLinkNest "GingerRents" 236 "GingerRents$House" "icing" "I" "GingerRents") U := h.1 ("GingerRents", 236, "GingerRents$House", "icing", "I") (List.mem_of_getElem? (i := 5) rfl)
theorem nf_q270 {cs : Cs} {z : Nat} {U : State} (h : xN cs z U) : va_Nw (.fieldLinkNest "GingerRents" 187 "GingerRents$House" "lodgers" "I" "GingerRents") U := h.1 ("GingerRents", 187, "GingerRents$House", "lodgers", "I") (List.mem_of_getElem? (i := 6) rfl)
theorem nf_q273 {cs : Cs} {z : Nat} {U : State} (h : xN cs z U) : va_Nw (.fieldLinkNest "GingerRents" 242 "GingerRents$House" "age" "I" "GingerRents") U := h.1 ("GingerRents", 242, "GingerRents$House", "age", "I") (List.mem_of_getElem? (i := 7) rfl)
theorem nf_q276 {cs : Cs} {z : Nat} {U : State} (h : xN cs z U) : va_Nw (.fieldLinkNest "GingerRents" 239 "GingerRents$House" "hasDoor" "Z" "GingerRents") U := h.1 ("GingerRents", 239, "GingerRents$House", "hasDoor", "Z") (List.mem_of_getElem? (i := 8) rfl)
theorem nf_q298 {cs : Cs} {z : Nat} {U : State} (h : xN cs z U) : va_Nw (.fieldLinkNest "GingerRents" 154 "GingerRents$Borough" "house" "[LGingerRents$House;" "GingerRents") U := h.1 ("GingerRents", 154, "GingerRents$Borough", "house", "[LGingerRents$House;") (List.mem_of_getElem? (i := 9) rfl)
theorem nf_q300 {cs : Cs} {z : Nat} {U : State} (h : xN cs z U) : va_Nw (.fieldLinkNest "GingerRents" 252 "GingerRents$Borough" "book" "[[I" "GingerRents") U := h.1 ("GingerRents", 252, "GingerRents$Borough", "book", "[[I") (List.mem_of_getElem? (i := 10) rfl)
theorem nf_q302 {cs : Cs} {z : Nat} {U : State} (h : xN cs z U) : va_Nw (.fieldLinkNest "GingerRents" 284 "GingerRents$Borough" "pieces" "LGingerRents$Rows;" "GingerRents") U := h.1 ("GingerRents", 284, "GingerRents$Borough", "pieces", "LGingerRents$Rows;") (List.mem_of_getElem? (i := 11) rfl)
theorem nf_q304 {cs : Cs} {z : Nat} {U : State} (h : xN cs z U) : va_Nw (.fieldLinkNest "GingerRents" 308 "GingerRents$Borough" "doughs" "LGingerRents$Rows;" "GingerRents") U := h.1 ("GingerRents", 308, "GingerRents$Borough", "doughs", "LGingerRents$Rows;") (List.mem_of_getElem? (i := 12) rfl)
theorem nf_q306 {cs : Cs} {z : Nat} {U : State} (h : xN cs z U) : va_Nw (.fieldLinkNest "GingerRents" 317 "GingerRents$Borough" "marks" "LGingerRents$Rows;" "GingerRents") U := h.1 ("GingerRents", 317, "GingerRents$Borough", "marks", "LGingerRents$Rows;") (List.mem_of_getElem? (i := 13) rfl)
theorem nf_q308 {cs : Cs} {z : Nat} {U : State} (h : xN cs z U) : va_Nw (.fieldLinkNest "GingerRents" 326 "GingerRents$Borough" "bites" "LGingerRents$Rows;" "GingerRents") U := h.1 ("GingerRents", 326, "GingerRents$Borough", "bites", "LGingerRents$Rows;") (List.mem_of_getElem? (i := 14) rfl)
theorem nf_q310 {cs : Cs} {z : Nat} {U : State} (h : xN cs z U) : va_Nw (.fieldLinkNest "GingerRents" 336 "GingerRents$Borough" "crumbs" "LGingerRents$Rows;" "GingerRents") U := h.1 ("GingerRents", 336, "GingerRents$Borough", "crumbs", "LGingerRents$Rows;") (List.mem_of_getElem? (i := 15) rfl)
theorem nf_q312 {cs : Cs} {z : Nat} {U : State} (h : xN cs z U) : va_Nw (.fieldLinkNest "GingerRents" 339 "GingerRents$Borough" "loaves" "LGingerRents$Rows;" "GingerRents") U := h.1 ("GingerRents", 339, "GingerRents$Borough", "loaves", "LGingerRents$Rows;") (List.mem_of_getElem? (i := 16) rfl)
theorem nf_q314 {cs : Cs} {z : Nat} {U : State} (h : xN cs z U) : va_Nw (.fieldLinkNest "GingerRents" 352 "GingerRents$Borough" "heirs" "LGingerRents$Rows;" "GingerRents") U := h.1 ("GingerRents", 352, "GingerRents$Borough", "heirs", "LGingerRents$Rows;") (List.mem_of_getElem? (i := 17) rfl)
theorem nf_q316 {cs : Cs} {z : Nat} {U : State} (h : xN cs z U) : va_Nw (.fieldLinkNest "GingerRents" 358 "GingerRents$Borough" "members" "LGingerRents$Rows;" "GingerRents") U := h.1 ("GingerRents", 358, "GingerRents$Borough", "members", "LGingerRents$Rows;") (List.mem_of_getElem? (i := 18) rfl)
theorem nf_q318 {cs : Cs} {z : Nat} {U : State} (h : xN cs z U) : va_Nw (.fieldLinkNest "GingerRents" 94 "GingerRents$Borough" "law" "Ljava/util/ArrayList;" "GingerRents") U := h.1 ("GingerRents", 94, "GingerRents$Borough", "law", "Ljava/util/ArrayList;") (List.mem_of_getElem? (i := 19) rfl)
theorem nf_q320 {cs : Cs} {z : Nat} {U : State} (h : xN cs z U) : va_Nw (.fieldLinkNest "GingerRents" 106 "GingerRents$Borough" "sky" "Ljava/util/ArrayList;" "GingerRents") U := h.1 ("GingerRents", 106, "GingerRents$Borough", "sky", "Ljava/util/ArrayList;") (List.mem_of_getElem? (i := 20) rfl)
theorem nf_q322 {cs : Cs} {z : Nat} {U : State} (h : xN cs z U) : va_Nw (.fieldLinkNest "GingerRents" 113 "GingerRents$Borough" "office" "Ljava/util/ArrayList;" "GingerRents") U := h.1 ("GingerRents", 113, "GingerRents$Borough", "office", "Ljava/util/ArrayList;") (List.mem_of_getElem? (i := 21) rfl)
theorem nf_q324 {cs : Cs} {z : Nat} {U : State} (h : xN cs z U) : va_Nw (.fieldLinkNest "GingerRents" 120 "GingerRents$Borough" "nextTo" "[I" "GingerRents") U := h.1 ("GingerRents", 120, "GingerRents$Borough", "nextTo", "[I") (List.mem_of_getElem? (i := 22) rfl)
theorem nf_q327 {cs : Cs} {z : Nat} {U : State} (h : xN cs z U) : va_Nw (.fieldLinkNest "GingerRents" 151 "GingerRents$Borough" "houses" "I" "GingerRents") U := h.1 ("GingerRents", 151, "GingerRents$Borough", "houses", "I") (List.mem_of_getElem? (i := 23) rfl)
theorem nf_q330 {cs : Cs} {z : Nat} {U : State} (h : xN cs z U) : va_Nw (.fieldLinkNest "GingerRents" 190 "GingerRents$Borough" "rain" "I" "GingerRents") U := h.1 ("GingerRents", 190, "GingerRents$Borough", "rain", "I") (List.mem_of_getElem? (i := 24) rfl)
theorem nf_q333 {cs : Cs} {z : Nat} {U : State} (h : xN cs z U) : va_Nw (.fieldLinkNest "GingerRents" 386 "GingerRents$Borough" "frost" "I" "GingerRents") U := h.1 ("GingerRents", 386, "GingerRents$Borough", "frost", "I") (List.mem_of_getElem? (i := 25) rfl)
theorem nf_q335 {cs : Cs} {z : Nat} {U : State} (h : xN cs z U) : va_Nw (.fieldLinkNest "GingerRents" 258 "GingerRents$Borough" "eaten" "I" "GingerRents") U := h.1 ("GingerRents", 258, "GingerRents$Borough", "eaten", "I") (List.mem_of_getElem? (i := 26) rfl)
theorem nf_q337 {cs : Cs} {z : Nat} {U : State} (h : xN cs z U) : va_Nw (.fieldLinkNest "GingerRents" 389 "GingerRents$Borough" "gnawed" "I" "GingerRents") U := h.1 ("GingerRents", 389, "GingerRents$Borough", "gnawed", "I") (List.mem_of_getElem? (i := 27) rfl)
theorem nf_q339 {cs : Cs} {z : Nat} {U : State} (h : xN cs z U) : va_Nw (.fieldLinkNest "GingerRents" 223 "GingerRents$Borough" "quarter" "I" "GingerRents") U := h.1 ("GingerRents", 223, "GingerRents$Borough", "quarter", "I") (List.mem_of_getElem? (i := 28) rfl)
theorem nf_q341 {cs : Cs} {z : Nat} {U : State} (h : xN cs z U) : va_Nw (.fieldLinkNest "GingerRents" 158 "GingerRents$Borough" "state" "I" "GingerRents") U := h.1 ("GingerRents", 158, "GingerRents$Borough", "state", "I") (List.mem_of_getElem? (i := 29) rfl)
theorem nf_q343 {cs : Cs} {z : Nat} {U : State} (h : xN cs z U) : va_Nw (.fieldLinkNest "GingerRents" 249 "GingerRents$Borough" "lines" "I" "GingerRents") U := h.1 ("GingerRents", 249, "GingerRents$Borough", "lines", "I") (List.mem_of_getElem? (i := 30) rfl)
theorem nf_q345 {cs : Cs} {z : Nat} {U : State} (h : xN cs z U) : va_Nw (.fieldLinkNest "GingerRents" 126 "GingerRents$Borough" "nextLines" "I" "GingerRents") U := h.1 ("GingerRents", 126, "GingerRents$Borough", "nextLines", "I") (List.mem_of_getElem? (i := 31) rfl)
theorem nf_q346 {cs : Cs} {z : Nat} {U : State} (h : xN cs z U) : va_Nw (.fieldLinkNest "GingerRents" 34 "GingerRents$Borough" "isThought" "Z" "GingerRents") U := h.1 ("GingerRents", 34, "GingerRents$Borough", "isThought", "Z") (List.mem_of_getElem? (i := 32) rfl)
theorem nf_q503 {cs : Cs} {z : Nat} {U : State} (h : xN cs z U) : va_Nw (.fieldLinkNest "GingerRents" 123 "GingerRents$Reader" "told" "I" "GingerRents") U := h.1 ("GingerRents", 123, "GingerRents$Reader", "told", "I") (List.mem_of_getElem? (i := 33) rfl)
theorem nf_q692 {cs : Cs} {z : Nat} {U : State} (h : xN cs z U) : va_Nw (.fieldLinkNest "GingerRents" 138 "GingerRents$Fault" "kind" "I" "GingerRents") U := h.1 ("GingerRents", 138, "GingerRents$Fault", "kind", "I") (List.mem_of_getElem? (i := 34) rfl)
theorem nf_q694 {cs : Cs} {z : Nat} {U : State} (h : xN cs z U) : va_Nw (.fieldLinkNest "GingerRents" 141 "GingerRents$Fault" "place" "I" "GingerRents") U := h.1 ("GingerRents", 141, "GingerRents$Fault", "place", "I") (List.mem_of_getElem? (i := 35) rfl)
theorem nf_q253 {cs : Cs} {z : Nat} {U : State} (h : xN cs z U) : va_Nw (.fieldLinkNest "GingerRents$Borough" 130 "GingerRents$House" "wall" "[I" "GingerRents") U := h.1 ("GingerRents$Borough", 130, "GingerRents$House", "wall", "[I") (List.mem_of_getElem? (i := 36) rfl)
theorem nf_q256 {cs : Cs} {z : Nat} {U : State} (h : xN cs z U) : va_Nw (.fieldLinkNest "GingerRents$Borough" 140 "GingerRents$House" "almonds" "I" "GingerRents") U := h.1 ("GingerRents$Borough", 140, "GingerRents$House", "almonds", "I") (List.mem_of_getElem? (i := 37) rfl)
theorem nf_q259 {cs : Cs} {z : Nat} {U : State} (h : xN cs z U) : va_Nw (.fieldLinkNest "GingerRents$Borough" 143 "GingerRents$House" "teeth" "I" "GingerRents") U := h.1 ("GingerRents$Borough", 143, "GingerRents$House", "teeth", "I") (List.mem_of_getElem? (i := 38) rfl)
theorem nf_q262 {cs : Cs} {z : Nat} {U : State} (h : xN cs z U) : va_Nw (.fieldLinkNest "GingerRents$Borough" 146 "GingerRents$House" "hard" "I" "GingerRents") U := h.1 ("GingerRents$Borough", 146, "GingerRents$House", "hard", "I") (List.mem_of_getElem? (i := 39) rfl)
theorem nf_q266 {cs : Cs} {z : Nat} {U : State} (h : xN cs z U) : va_Nw (.fieldLinkNest "GingerRents$Borough" 149 "GingerRents$House" "icing" "I" "GingerRents") U := h.1 ("GingerRents$Borough", 149, "GingerRents$House", "icing", "I") (List.mem_of_getElem? (i := 40) rfl)
theorem nf_q269 {cs : Cs} {z : Nat} {U : State} (h : xN cs z U) : va_Nw (.fieldLinkNest "GingerRents$Borough" 152 "GingerRents$House" "lodgers" "I" "GingerRents") U := h.1 ("GingerRents$Borough", 152, "GingerRents$House", "lodgers", "I") (List.mem_of_getElem? (i := 41) rfl)
theorem nf_q272 {cs : Cs} {z : Nat} {U : State} (h : xN cs z U) : va_Nw (.fieldLinkNest "GingerRents$Borough" 158 "GingerRents$House" "age" "I" "GingerRents") U := h.1 ("GingerRents$Borough", 158, "GingerRents$House", "age", "I") (List.mem_of_getElem? (i := 42) rfl)
theorem nf_q275 {cs : Cs} {z : Nat} {U : State} (h : xN cs z U) : va_Nw (.fieldLinkNest "GingerRents$Borough" 155 "GingerRents$House" "hasDoor" "Z" "GingerRents") U := h.1 ("GingerRents$Borough", 155, "GingerRents$House", "hasDoor", "Z") (List.mem_of_getElem? (i := 43) rfl)
theorem nf_q807 {cs : Cs} {z : Nat} {U : State} (h : xN cs z U) : va_Nw (.fieldLinkNest "GingerRents$Borough" 170 "GingerRents$Line" "word" "I" "GingerRents") U := h.1 ("GingerRents$Borough", 170, "GingerRents$Line", "word", "I") (List.mem_of_getElem? (i := 44) rfl)
theorem nf_q809 {cs : Cs} {z : Nat} {U : State} (h : xN cs z U) : va_Nw (.fieldLinkNest "GingerRents$Borough" 183 "GingerRents$Line" "comesTo" "LGingerRents$Term;" "GingerRents") U := h.1 ("GingerRents$Borough", 183, "GingerRents$Line", "comesTo", "LGingerRents$Term;") (List.mem_of_getElem? (i := 45) rfl)
theorem nf_q811 {cs : Cs} {z : Nat} {U : State} (h : xN cs z U) : va_Nw (.fieldLinkNest "GingerRents$Borough" 173 "GingerRents$Line" "when" "LGingerRents$Term;" "GingerRents") U := h.1 ("GingerRents$Borough", 173, "GingerRents$Line", "when", "LGingerRents$Term;") (List.mem_of_getElem? (i := 46) rfl)
theorem nf_q328 {cs : Cs} {z : Nat} {U : State} (h : xN cs z U) : va_Nw (.fieldLinkNest "GingerRents$Rain" 13 "GingerRents$Borough" "rain" "I" "GingerRents") U := h.1 ("GingerRents$Rain", 13, "GingerRents$Borough", "rain", "I") (List.mem_of_getElem? (i := 47) rfl)
theorem nf_q331 {cs : Cs} {z : Nat} {U : State} (h : xN cs z U) : va_Nw (.fieldLinkNest "GingerRents$Frost" 13 "GingerRents$Borough" "frost" "I" "GingerRents") U := h.1 ("GingerRents$Frost", 13, "GingerRents$Borough", "frost", "I") (List.mem_of_getElem? (i := 48) rfl)
theorem nf_q264 {cs : Cs} {z : Nat} {U : State} (h : xN cs z U) : va_Nw (.fieldLinkNest "GingerRents$Ice" 23 "GingerRents$House" "icing" "I" "GingerRents") U := h.1 ("GingerRents$Ice", 23, "GingerRents$House", "icing", "I") (List.mem_of_getElem? (i := 49) rfl)
theorem nf_q296 {cs : Cs} {z : Nat} {U : State} (h : xN cs z U) : va_Nw (.fieldLinkNest "GingerRents$Ice" 13 "GingerRents$Borough" "house" "[LGingerRents$House;" "GingerRents") U := h.1 ("GingerRents$Ice", 13, "GingerRents$Borough", "house", "[LGingerRents$House;") (List.mem_of_getElem? (i := 50) rfl)
theorem nf_q295 {cs : Cs} {z : Nat} {U : State} (h : xN cs z U) : va_Nw (.fieldLinkNest "GingerRents$Bake" 16 "GingerRents$Borough" "house" "[LGingerRents$House;" "GingerRents") U := h.1 ("GingerRents$Bake", 16, "GingerRents$Borough", "house", "[LGingerRents$House;") (List.mem_of_getElem? (i := 51) rfl)
theorem nf_q297 {cs : Cs} {z : Nat} {U : State} (h : xN cs z U) : va_Nw (.fieldLinkNest "GingerRents$Razing" 7 "GingerRents$Borough" "house" "[LGingerRents$House;" "GingerRents") U := h.1 ("GingerRents$Razing", 7, "GingerRents$Borough", "house", "[LGingerRents$House;") (List.mem_of_getElem? (i := 52) rfl)
theorem nf_q326 {cs : Cs} {z : Nat} {U : State} (h : xN cs z U) : va_Nw (.fieldLinkNest "GingerRents$Reader" 137 "GingerRents$Borough" "houses" "I" "GingerRents") U := h.1 ("GingerRents$Reader", 137, "GingerRents$Borough", "houses", "I") (List.mem_of_getElem? (i := 53) rfl)
theorem nf_q406 {cs : Cs} {z : Nat} {U : State} (h : xN cs z U) : va_Nw (.fieldLinkNest "GingerRents$Reader" 29 "GingerRents" "tape" "[B" "GingerRents") U := h.1 ("GingerRents$Reader", 29, "GingerRents", "tape", "[B") (List.mem_of_getElem? (i := 54) rfl)
theorem nf_q407 {cs : Cs} {z : Nat} {U : State} (h : xN cs z U) : va_Nw (.fieldLinkNest "GingerRents$Reader" 26 "GingerRents" "taped" "I" "GingerRents") U := h.1 ("GingerRents$Reader", 26, "GingerRents", "taped", "I") (List.mem_of_getElem? (i := 55) rfl)
theorem nf_q412 {cs : Cs} {z : Nat} {U : State} (h : xN cs z U) : va_Nw (.fieldLinkNest "GingerRents$Reader" 133 "GingerRents" "borough" "LGingerRents$Borough;" "GingerRents") U := h.1 ("GingerRents$Reader", 133, "GingerRents", "borough", "LGingerRents$Borough;") (List.mem_of_getElem? (i := 56) rfl)
theorem nm_q248 {cs : Cs} {z : Nat} {U : State} (h : xN cs z U) : va_Nw (.methodLinkNest "GingerRents$Borough" 69 ⟨"GingerRents$House", "<init>", "()V"⟩ "GingerRents") U := h.2.1 ("GingerRents$Borough", 69, ⟨"GingerRents$House", "<init>", "()V"⟩) (List.mem_of_getElem? (i := 0) rfl)
theorem nm_q1216 {cs : Cs} {z : Nat} {U : State} (h : xN cs z U) : va_Nw (.methodLinkNest "GingerRents$Borough" 186 ⟨"GingerRents", "bound", "(III)I"⟩ "GingerRents") U := h.2.1 ("GingerRents$Borough", 186, ⟨"GingerRents", "bound", "(III)I"⟩) (List.mem_of_getElem? (i := 1) rfl)
theorem nm_q759 {cs : Cs} {z : Nat} {U : State} (h : xN cs z U) : va_Nw (.methodLinkNest "GingerRents$Joined" 3 ⟨"GingerRents$Term", "<init>", "()V"⟩ "GingerRents") U := h.2.1 ("GingerRents$Joined", 3, ⟨"GingerRents$Term", "<init>", "()V"⟩) (List.mem_of_getElem? (i := 2) rfl)
theorem nm_q791 {cs : Cs} {z : Nat} {U : State} (h : xN cs z U) : va_Nw (.methodLinkNest "GingerRents$Not" 1 ⟨"GingerRents$Term", "<init>", "()V"⟩ "GingerRents") U := h.2.1 ("GingerRents$Not", 1, ⟨"GingerRents$Term", "<init>", "()V"⟩) (List.mem_of_getElem? (i := 3) rfl)
theorem nm_q543 {cs : Cs} {z : Nat} {U : State} (h : xN cs z U) : va_Nw (.methodLinkNest "GingerRents$Reader" 37 ⟨"GingerRents", "isIn", "(III)Z"⟩ "GingerRents") U := h.2.1 ("GingerRents$Reader", 37, ⟨"GingerRents", "isIn", "(III)Z"⟩) (List.mem_of_getElem? (i := 4) rfl)
theorem nm_q736 {cs : Cs} {z : Nat} {U : State} (h : xN cs z U) : va_Nw (.methodLinkNest "GingerRents$Fixed" 1 ⟨"GingerRents$Term", "<init>", "()V"⟩ "GingerRents") U := h.2.1 ("GingerRents$Fixed", 1, ⟨"GingerRents$Term", "<init>", "()V"⟩) (List.mem_of_getElem? (i := 5) rfl)
theorem nm_q749 {cs : Cs} {z : Nat} {U : State} (h : xN cs z U) : va_Nw (.methodLinkNest "GingerRents$Known" 1 ⟨"GingerRents$Term", "<init>", "()V"⟩ "GingerRents") U := h.2.1 ("GingerRents$Known", 1, ⟨"GingerRents$Term", "<init>", "()V"⟩) (List.mem_of_getElem? (i := 6) rfl)
theorem nd_q652 {cs : Cs} {z : Nat} {U : State} (h : xN cs z U) : va_Nw (.declares ⟨"java/lang/Throwable", "<init>", "()V"⟩) U := h.2.2.1 ⟨"java/lang/Throwable", "<init>", "()V"⟩ (List.mem_of_getElem? (i := 0) rfl)
theorem nd_q653 {cs : Cs} {z : Nat} {U : State} (h : xN cs z U) : va_Nw (.declares ⟨"java/lang/Throwable", "<init>", "(Ljava/lang/String;)V"⟩) U := h.2.2.1 ⟨"java/lang/Throwable", "<init>", "(Ljava/lang/String;)V"⟩ (List.mem_of_getElem? (i := 1) rfl)
theorem nd_q650 {cs : Cs} {z : Nat} {U : State} (h : xN cs z U) : va_Nw (.declares ⟨"java/lang/Exception", "<init>", "()V"⟩) U := h.2.2.1 ⟨"java/lang/Exception", "<init>", "()V"⟩ (List.mem_of_getElem? (i := 2) rfl)
theorem nd_q651 {cs : Cs} {z : Nat} {U : State} (h : xN cs z U) : va_Nw (.declares ⟨"java/lang/Exception", "<init>", "(Ljava/lang/String;)V"⟩) U := h.2.2.1 ⟨"java/lang/Exception", "<init>", "(Ljava/lang/String;)V"⟩ (List.mem_of_getElem? (i := 3) rfl)
theorem nd_q2281 {cs : Cs} {z : Nat} {U : State} (h : xN cs z U) : va_Nw (.declares ⟨"java/lang/Object", "getClass", "()Ljava/lang/Class;"⟩) U := h.2.2.1 ⟨"java/lang/Object", "getClass", "()Ljava/lang/Class;"⟩ (List.mem_of_getElem? (i := 4) rfl)
theorem nd_q1128 {cs : Cs} {z : Nat} {U : State} (h : xN cs z U) : va_Nw (.declares ⟨"GingerRents$Entry", "comes", "(LGingerRents$Borough;)V"⟩) U := h.2.2.1 ⟨"GingerRents$Entry", "comes", "(LGingerRents$Borough;)V"⟩ (List.mem_of_getElem? (i := 5) rfl)
theorem nd_q1135 {cs : Cs} {z : Nat} {U : State} (h : xN cs z U) : va_Nw (.declares ⟨"GingerRents$Entry", "one", "()I"⟩) U := h.2.2.1 ⟨"GingerRents$Entry", "one", "()I"⟩ (List.mem_of_getElem? (i := 6) rfl)
theorem nd_q1189 {cs : Cs} {z : Nat} {U : State} (h : xN cs z U) : va_Nw (.declares ⟨"GingerRents$Term", "of", "(LGingerRents$Asker;)I"⟩) U := h.2.2.1 ⟨"GingerRents$Term", "of", "(LGingerRents$Asker;)I"⟩ (List.mem_of_getElem? (i := 7) rfl)
theorem nd_q1203 {cs : Cs} {z : Nat} {U : State} (h : xN cs z U) : va_Nw (.declares ⟨"GingerRents$Asker", "fact", "(I)I"⟩) U := h.2.2.1 ⟨"GingerRents$Asker", "fact", "(I)I"⟩ (List.mem_of_getElem? (i := 8) rfl)
theorem nc_q2277 {cs : Cs} {z : Nat} {U : State} (h : xN cs z U) : va_Nw (.castable "java/lang/Throwable" "java/lang/Object") U := h.2.2.2.1 ("java/lang/Throwable", "java/lang/Object") (List.mem_of_getElem? (i := 0) rfl)
theorem nc_q2262 {cs : Cs} {z : Nat} {U : State} (h : xN cs z U) : va_Nw (.castable "java/util/ArrayList" "java/lang/Object") U := h.2.2.2.1 ("java/util/ArrayList", "java/lang/Object") (List.mem_of_getElem? (i := 1) rfl)
theorem nc_q2278 {cs : Cs} {z : Nat} {U : State} (h : xN cs z U) : va_Nw (.castable "java/lang/String" "java/lang/Object") U := h.2.2.2.1 ("java/lang/String", "java/lang/Object") (List.mem_of_getElem? (i := 2) rfl)
theorem nc_q2260 {cs : Cs} {z : Nat} {U : State} (h : xN cs z U) : va_Nw (.castable "GingerRents" "java/lang/Object") U := h.2.2.2.1 ("GingerRents", "java/lang/Object") (List.mem_of_getElem? (i := 3) rfl)
theorem nc_q1204 {cs : Cs} {z : Nat} {U : State} (h : xN cs z U) : va_Nw (.castable "GingerRents$Borough" "GingerRents$Asker") U := h.2.2.2.1 ("GingerRents$Borough", "GingerRents$Asker") (List.mem_of_getElem? (i := 4) rfl)
theorem nc_q2259 {cs : Cs} {z : Nat} {U : State} (h : xN cs z U) : va_Nw (.castable "GingerRents$Borough" "java/lang/Object") U := h.2.2.2.1 ("GingerRents$Borough", "java/lang/Object") (List.mem_of_getElem? (i := 5) rfl)
theorem nc_q2268 {cs : Cs} {z : Nat} {U : State} (h : xN cs z U) : va_Nw (.castable "GingerRents$Joined" "java/lang/Object") U := h.2.2.2.1 ("GingerRents$Joined", "java/lang/Object") (List.mem_of_getElem? (i := 6) rfl)
theorem nc_q2269 {cs : Cs} {z : Nat} {U : State} (h : xN cs z U) : va_Nw (.castable "GingerRents$Not" "java/lang/Object") U := h.2.2.2.1 ("GingerRents$Not", "java/lang/Object") (List.mem_of_getElem? (i := 7) rfl)
theorem nc_q2270 {cs : Cs} {z : Nat} {U : State} (h : xN cs z U) : va_Nw (.castable "GingerRents$Line" "java/lang/Object") U := h.2.2.2.1 ("GingerRents$Line", "java/lang/Object") (List.mem_of_getElem? (i := 8) rfl)
theorem nc_q2255 {cs : Cs} {z : Nat} {U : State} (h : xN cs z U) : va_Nw (.castable "GingerRents$Rain" "GingerRents$Entry") U := h.2.2.2.1 ("GingerRents$Rain", "GingerRents$Entry") (List.mem_of_getElem? (i := 9) rfl)
theorem nc_q2271 {cs : Cs} {z : Nat} {U : State} (h : xN cs z U) : va_Nw (.castable "GingerRents$Rain" "java/lang/Object") U := h.2.2.2.1 ("GingerRents$Rain", "java/lang/Object") (List.mem_of_getElem? (i := 10) rfl)
theorem nc_q2253 {cs : Cs} {z : Nat} {U : State} (h : xN cs z U) : va_Nw (.castable "GingerRents$Frost" "GingerRents$Entry") U := h.2.2.2.1 ("GingerRents$Frost", "GingerRents$Entry") (List.mem_of_getElem? (i := 11) rfl)
theorem nc_q2272 {cs : Cs} {z : Nat} {U : State} (h : xN cs z U) : va_Nw (.castable "GingerRents$Frost" "java/lang/Object") U := h.2.2.2.1 ("GingerRents$Frost", "java/lang/Object") (List.mem_of_getElem? (i := 12) rfl)
theorem nc_q2254 {cs : Cs} {z : Nat} {U : State} (h : xN cs z U) : va_Nw (.castable "GingerRents$Ice" "GingerRents$Entry") U := h.2.2.2.1 ("GingerRents$Ice", "GingerRents$Entry") (List.mem_of_getElem? (i := 13) rfl)
theorem nc_q2273 {cs : Cs} {z : Nat} {U : State} (h : xN cs z U) : va_Nw (.castable "GingerRents$Ice" "java/lang/Object") U := h.2.2.2.1 ("GingerRents$Ice", "java/lang/Object") (List.mem_of_getElem? (i := 14) rfl)
theorem nc_q2252 {cs : Cs} {z : Nat} {U : State} (h : xN cs z U) : va_Nw (.castable "GingerRents$Bake" "GingerRents$Entry") U := h.2.2.2.1 ("GingerRents$Bake", "GingerRents$Entry") (List.mem_of_getElem? (i := 15) rfl)
theorem nc_q2274 {cs : Cs} {z : Nat} {U : State} (h : xN cs z U) : va_Nw (.castable "GingerRents$Bake" "java/lang/Object") U := h.2.2.2.1 ("GingerRents$Bake", "java/lang/Object") (List.mem_of_getElem? (i := 16) rfl)
theorem nc_q2257 {cs : Cs} {z : Nat} {U : State} (h : xN cs z U) : va_Nw (.castable "GingerRents$Wedding" "GingerRents$Entry") U := h.2.2.2.1 ("GingerRents$Wedding", "GingerRents$Entry") (List.mem_of_getElem? (i := 17) rfl)
theorem nc_q2275 {cs : Cs} {z : Nat} {U : State} (h : xN cs z U) : va_Nw (.castable "GingerRents$Wedding" "java/lang/Object") U := h.2.2.2.1 ("GingerRents$Wedding", "java/lang/Object") (List.mem_of_getElem? (i := 18) rfl)
theorem nc_q2256 {cs : Cs} {z : Nat} {U : State} (h : xN cs z U) : va_Nw (.castable "GingerRents$Razing" "GingerRents$Entry") U := h.2.2.2.1 ("GingerRents$Razing", "GingerRents$Entry") (List.mem_of_getElem? (i := 19) rfl)
theorem nc_q2276 {cs : Cs} {z : Nat} {U : State} (h : xN cs z U) : va_Nw (.castable "GingerRents$Razing" "java/lang/Object") U := h.2.2.2.1 ("GingerRents$Razing", "java/lang/Object") (List.mem_of_getElem? (i := 20) rfl)
theorem nc_q2261 {cs : Cs} {z : Nat} {U : State} (h : xN cs z U) : va_Nw (.castable "GingerRents$Rows" "java/lang/Object") U := h.2.2.2.1 ("GingerRents$Rows", "java/lang/Object") (List.mem_of_getElem? (i := 21) rfl)
theorem nc_q2258 {cs : Cs} {z : Nat} {U : State} (h : xN cs z U) : va_Nw (.castable "GingerRents$House" "java/lang/Object") U := h.2.2.2.1 ("GingerRents$House", "java/lang/Object") (List.mem_of_getElem? (i := 22) rfl)
theorem nc_q2263 {cs : Cs} {z : Nat} {U : State} (h : xN cs z U) : va_Nw (.castable "GingerRentsModel" "java/lang/Object") U := h.2.2.2.1 ("GingerRentsModel", "java/lang/Object") (List.mem_of_getElem? (i := 23) rfl)
theorem nc_q2264 {cs : Cs} {z : Nat} {U : State} (h : xN cs z U) : va_Nw (.castable "GingerRents$Reader" "java/lang/Object") U := h.2.2.2.1 ("GingerRents$Reader", "java/lang/Object") (List.mem_of_getElem? (i := 24) rfl)
theorem nc_q649 {cs : Cs} {z : Nat} {U : State} (h : xN cs z U) : va_Nw (.castable "GingerRents$Fault" "GingerRents$Fault") U := h.2.2.2.1 ("GingerRents$Fault", "GingerRents$Fault") (List.mem_of_getElem? (i := 25) rfl)
theorem nc_q2265 {cs : Cs} {z : Nat} {U : State} (h : xN cs z U) : va_Nw (.castable "GingerRents$Fault" "java/lang/Object") U := h.2.2.2.1 ("GingerRents$Fault", "java/lang/Object") (List.mem_of_getElem? (i := 26) rfl)
theorem nc_q2266 {cs : Cs} {z : Nat} {U : State} (h : xN cs z U) : va_Nw (.castable "GingerRents$Fixed" "java/lang/Object") U := h.2.2.2.1 ("GingerRents$Fixed", "java/lang/Object") (List.mem_of_getElem? (i := 27) rfl)
theorem nc_q2267 {cs : Cs} {z : Nat} {U : State} (h : xN cs z U) : va_Nw (.castable "GingerRents$Known" "java/lang/Object") U := h.2.2.2.1 ("GingerRents$Known", "java/lang/Object") (List.mem_of_getElem? (i := 28) rfl)
theorem nc_q2284 {cs : Cs} {z : Nat} {U : State} (h : xN cs z U) : va_Nw (.castable "[B" "java/lang/Object") U := h.2.2.2.1 ("[B", "java/lang/Object") (List.mem_of_getElem? (i := 29) rfl)
theorem nc_q2285 {cs : Cs} {z : Nat} {U : State} (h : xN cs z U) : va_Nw (.castable "[I" "java/lang/Object") U := h.2.2.2.1 ("[I", "java/lang/Object") (List.mem_of_getElem? (i := 30) rfl)
theorem nc_q2286 {cs : Cs} {z : Nat} {U : State} (h : xN cs z U) : va_Nw (.castable "[LGingerRents$Borough;" "java/lang/Object") U := h.2.2.2.1 ("[LGingerRents$Borough;", "java/lang/Object") (List.mem_of_getElem? (i := 31) rfl)
theorem nc_q2282 {cs : Cs} {z : Nat} {U : State} (h : xN cs z U) : va_Nw (.castable "[LGingerRents$House;" "java/lang/Object") U := h.2.2.2.1 ("[LGingerRents$House;", "java/lang/Object") (List.mem_of_getElem? (i := 32) rfl)
theorem nc_q2287 {cs : Cs} {z : Nat} {U : State} (h : xN cs z U) : va_Nw (.castable "[Ljava/lang/Object;" "java/lang/Object") U := h.2.2.2.1 ("[Ljava/lang/Object;", "java/lang/Object") (List.mem_of_getElem? (i := 33) rfl)
theorem nc_q2283 {cs : Cs} {z : Nat} {U : State} (h : xN cs z U) : va_Nw (.castable "[[I" "java/lang/Object") U := h.2.2.2.1 ("[[I", "java/lang/Object") (List.mem_of_getElem? (i := 34) rfl)
/-- the shape: what lies where of the cells that never move -/
def Shp (z : Nat) (kd : Kd) : Prop := (∀ a, (kd a).1 < 90 → xA z a) ∧ (∀ a, kd a = (0, 0, 0) → kd (a + 1) = (21, 400, 0)) ∧ (∀ a, kd a = (0, 0, 0) → kd (a + 2) = (1, 0, 0)) ∧ (∀ a, kd a = (0, 0, 0) → kd (a + 271) = (1, 0, 0)) ∧ (∀ a, kd a = (0, 0, 0) → kd (a + 540) = (1, 0, 0)) ∧ (∀ a, kd a = (0, 0, 0) → kd (a + 809) = (24, 6, 0)) ∧ (∀ a, kd a = (0, 0, 0) → kd (a + 2424) = (20, 12, 0)) ∧ (∀ a, kd a = (0, 0, 0) → kd (a + 2425) = (22, 10, 10)) ∧ (∀ a, kd a = (0, 0, 0) → kd (a + 2436) = (20, 256, 0)) ∧ (∀ a, kd a = (0, 0, 0) → kd (a + 2437) = (20, 1089, 0)) ∧ (∀ a, kd a = (0, 0, 0) → kd (a + 2438) = (20, 6, 0)) ∧ (∀ a, kd a = (0, 0, 0) → kd (a + 2439) = (20, 6, 0)) ∧ (∀ a, kd a = (0, 0, 0) → kd (a + 2440) = (22, 21, 4)) ∧ (∀ a, kd a = (0, 0, 0) → kd (a + 2462) = (20, 16807, 0)) ∧ (∀ a, kd a = (1, 0, 0) → kd (a + 1) = (23, 12, 0)) ∧ (∀ a, kd a = (1, 0, 0) → kd (a + 2) = (22, 150, 4)) ∧ (∀ a, kd a = (1, 0, 0) → kd (a + 153) = (2, 9, 0)) ∧ (∀ a, kd a = (1, 0, 0) → kd (a + 164) = (2, 8, 0)) ∧ (∀ a, kd a = (1, 0, 0) → kd (a + 174) = (2, 5, 0)) ∧ (∀ a, kd a = (1, 0, 0) → kd (a + 181) = (2, 8, 0)) ∧ (∀ a, kd a = (1, 0, 0) → kd (a + 191) = (2, 16, 0)) ∧ (∀ a, kd a = (1, 0, 0) → kd (a + 209) = (2, 6, 0)) ∧ (∀ a, kd a = (1, 0, 0) → kd (a + 217) = (2, 12, 0)) ∧ (∀ a, kd a = (1, 0, 0) → kd (a + 231) = (2, 8, 0)) ∧ (∀ a len, kd a = (2, len, 0) → kd (a + 1) = (22, len, 2)) ∧ (∀ a, kd a = (3, 0, 0) → kd (a + 1) = (20, 4, 0)) ∧ (∀ a, kd a = (5, 0, 0) → kd (a + 1) = (20, 12, 0)) ∧ (∀ a len inn, kd a = (22, len, inn) → ∀ j, j < len → kd (a + 1 + j) = (20, inn, 0)) ∧ (∀ a, kd a = (23, 12, 0) → ∀ j, j < 12 → kd (a + 244 + 2 * j) = (3, 0, 0)) ∧ (∀ a, kd a = (5, 0, 0) → kd z = (0, 0, 0))
theorem sh_xA {z : Nat} {kd : Kd} (h : Shp z kd) {a : Nat} (ha : (kd a).1 < 90) : xA z a := h.1 a ha
theorem sh_0_tape {z : Nat} {kd : Kd} (h : Shp z kd) {a : Nat} (ha : kd a = (0, 0, 0)) : kd (a + 1) = (21, 400, 0) := h.2.1 a ha
theorem sh_0_borough {z : Nat} {kd : Kd} (h : Shp z kd) {a : Nat} (ha : kd a = (0, 0, 0)) : kd (a + 2) = (1, 0, 0) := h.2.2.1 a ha
theorem sh_0_kept {z : Nat} {kd : Kd} (h : Shp z kd) {a : Nat} (ha : kd a = (0, 0, 0)) : kd (a + 271) = (1, 0, 0) := h.2.2.2.1 a ha
theorem sh_0_thought {z : Nat} {kd : Kd} (h : Shp z kd) {a : Nat} (ha : kd a = (0, 0, 0)) : kd (a + 540) = (1, 0, 0) := h.2.2.2.2.1 a ha
theorem sh_0_back {z : Nat} {kd : Kd} (h : Shp z kd) {a : Nat} (ha : kd a = (0, 0, 0)) : kd (a + 809) = (24, 6, 0) := h.2.2.2.2.2.1 a ha
theorem sh_0_costTo {z : Nat} {kd : Kd} (h : Shp z kd) {a : Nat} (ha : kd a = (0, 0, 0)) : kd (a + 2424) = (20, 12, 0) := h.2.2.2.2.2.2.1 a ha
theorem sh_0_leastOf {z : Nat} {kd : Kd} (h : Shp z kd) {a : Nat} (ha : kd a = (0, 0, 0)) : kd (a + 2425) = (22, 10, 10) := h.2.2.2.2.2.2.2.1 a ha
theorem sh_0_pansFor {z : Nat} {kd : Kd} (h : Shp z kd) {a : Nat} (ha : kd a = (0, 0, 0)) : kd (a + 2436) = (20, 256, 0) := h.2.2.2.2.2.2.2.2.1 a ha
theorem sh_0_stoodOn {z : Nat} {kd : Kd} (h : Shp z kd) {a : Nat} (ha : kd a = (0, 0, 0)) : kd (a + 2437) = (20, 1089, 0) := h.2.2.2.2.2.2.2.2.2.1 a ha
theorem sh_0_order {z : Nat} {kd : Kd} (h : Shp z kd) {a : Nat} (ha : kd a = (0, 0, 0)) : kd (a + 2438) = (20, 6, 0) := h.2.2.2.2.2.2.2.2.2.2.1 a ha
theorem sh_0_bestOrder {z : Nat} {kd : Kd} (h : Shp z kd) {a : Nat} (ha : kd a = (0, 0, 0)) : kd (a + 2439) = (20, 6, 0) := h.2.2.2.2.2.2.2.2.2.2.2.1 a ha
theorem sh_0_waysTo {z : Nat} {kd : Kd} (h : Shp z kd) {a : Nat} (ha : kd a = (0, 0, 0)) : kd (a + 2440) = (22, 21, 4) := h.2.2.2.2.2.2.2.2.2.2.2.2.1 a ha
theorem sh_0_isLost {z : Nat} {kd : Kd} (h : Shp z kd) {a : Nat} (ha : kd a = (0, 0, 0)) : kd (a + 2462) = (20, 16807, 0) := h.2.2.2.2.2.2.2.2.2.2.2.2.2.1 a ha
theorem sh_1_house {z : Nat} {kd : Kd} (h : Shp z kd) {a : Nat} (ha : kd a = (1, 0, 0)) : kd (a + 1) = (23, 12, 0) := h.2.2.2.2.2.2.2.2.2.2.2.2.2.2.1 a ha
theorem sh_1_book {z : Nat} {kd : Kd} (h : Shp z kd) {a : Nat} (ha : kd a = (1, 0, 0)) : kd (a + 2) = (22, 150, 4) := h.2.2.2.2.2.2.2.2.2.2.2.2.2.2.2.1 a ha
theorem sh_1_pieces {z : Nat} {kd : Kd} (h : Shp z kd) {a : Nat} (ha : kd a = (1, 0, 0)) : kd (a + 153) = (2, 9, 0) := h.2.2.2.2.2.2.2.2.2.2.2.2.2.2.2.2.1 a ha
theorem sh_1_doughs {z : Nat} {kd : Kd} (h : Shp z kd) {a : Nat} (ha : kd a = (1, 0, 0)) : kd (a + 164) = (2, 8, 0) := h.2.2.2.2.2.2.2.2.2.2.2.2.2.2.2.2.2.1 a ha
theorem sh_1_marks {z : Nat} {kd : Kd} (h : Shp z kd) {a : Nat} (ha : kd a = (1, 0, 0)) : kd (a + 174) = (2, 5, 0) := h.2.2.2.2.2.2.2.2.2.2.2.2.2.2.2.2.2.2.1 a ha
theorem sh_1_bites {z : Nat} {kd : Kd} (h : Shp z kd) {a : Nat} (ha : kd a = (1, 0, 0)) : kd (a + 181) = (2, 8, 0) := h.2.2.2.2.2.2.2.2.2.2.2.2.2.2.2.2.2.2.2.1 a ha
theorem sh_1_crumbs {z : Nat} {kd : Kd} (h : Shp z kd) {a : Nat} (ha : kd a = (1, 0, 0)) : kd (a + 191) = (2, 16, 0) := h.2.2.2.2.2.2.2.2.2.2.2.2.2.2.2.2.2.2.2.2.1 a ha
theorem sh_1_loaves {z : Nat} {kd : Kd} (h : Shp z kd) {a : Nat} (ha : kd a = (1, 0, 0)) : kd (a + 209) = (2, 6, 0) := h.2.2.2.2.2.2.2.2.2.2.2.2.2.2.2.2.2.2.2.2.2.1 a ha
theorem sh_1_heirs {z : Nat} {kd : Kd} (h : Shp z kd) {a : Nat} (ha : kd a = (1, 0, 0)) : kd (a + 217) = (2, 12, 0) := h.2.2.2.2.2.2.2.2.2.2.2.2.2.2.2.2.2.2.2.2.2.2.1 a ha
theorem sh_1_members {z : Nat} {kd : Kd} (h : Shp z kd) {a : Nat} (ha : kd a = (1, 0, 0)) : kd (a + 231) = (2, 8, 0) := h.2.2.2.2.2.2.2.2.2.2.2.2.2.2.2.2.2.2.2.2.2.2.2.1 a ha
theorem sh_2_row {z : Nat} {kd : Kd} (h : Shp z kd) {a len : Nat} (ha : kd a = (2, len, 0)) : kd (a + 1) = (22, len, 2) := h.2.2.2.2.2.2.2.2.2.2.2.2.2.2.2.2.2.2.2.2.2.2.2.2.1 a len ha
theorem sh_3_wall {z : Nat} {kd : Kd} (h : Shp z kd) {a : Nat} (ha : kd a = (3, 0, 0)) : kd (a + 1) = (20, 4, 0) := h.2.2.2.2.2.2.2.2.2.2.2.2.2.2.2.2.2.2.2.2.2.2.2.2.2.1 a ha
theorem sh_5_nextTo {z : Nat} {kd : Kd} (h : Shp z kd) {a : Nat} (ha : kd a = (5, 0, 0)) : kd (a + 1) = (20, 12, 0) := h.2.2.2.2.2.2.2.2.2.2.2.2.2.2.2.2.2.2.2.2.2.2.2.2.2.2.1 a ha
theorem sh_22 {z : Nat} {kd : Kd} (h : Shp z kd) {a len inn : Nat} (ha : kd a = (22, len, inn)) {j : Nat} (hj : j < len) : kd (a + 1 + j) = (20, inn, 0) := h.2.2.2.2.2.2.2.2.2.2.2.2.2.2.2.2.2.2.2.2.2.2.2.2.2.2.2.1 a len inn ha j hj
theorem sh_23 {z : Nat} {kd : Kd} (h : Shp z kd) {a : Nat} (ha : kd a = (23, 12, 0)) {j : Nat} (hj : j < 12) : kd (a + 244 + 2 * j) = (3, 0, 0) := h.2.2.2.2.2.2.2.2.2.2.2.2.2.2.2.2.2.2.2.2.2.2.2.2.2.2.2.2.1 a ha j hj
theorem sh_5_this_0 {z : Nat} {kd : Kd} (h : Shp z kd) {a : Nat} (ha : kd a = (5, 0, 0)) : kd z = (0, 0, 0) := h.2.2.2.2.2.2.2.2.2.2.2.2.2.2.2.2.2.2.2.2.2.2.2.2.2.2.2.2.2 a ha

def xPre (D : va_G) (cs : Cs) (z sz : Nat) (kd : Kd) (σ : Ptr × Mem) (U : State) : Prop := xRep D cs z sz kd σ U.heap ∧ xK D cs z U
def xPost (D : va_G) (cs : Cs) (z sz : Nat) (kd : Kd) (r : Option Value × (Ptr × Mem)) : Array Value → State → Outcome → State → Prop := fun _ st oc t => (oc = .returned r.1 ∧ xRep D cs z sz kd r.2 t.heap) ∧ va_F (xA z) st t
def xq (D : va_G) (cs : Cs) (z sz : Nat) (kd : Kd) (s : State) (args : Array Value) (below : List Frame) {O : Type} (fin : O → Option Value × (Ptr × Mem)) : O → En := fun out => ((0, 0), MQ below (xPost D cs z sz kd (fin out)) args s 0 0 (xA z))
def CtX (cs : Cs) (z : Nat) (kd : Kd) (y : MethodName) (cc : ByteArray) (nL : Nat) (ret : Option FieldType) (fr lo : Nat) (vals : List Value) (σ : Ptr × Mem) {O : Type} (fin : O → Option Value × (Ptr × Mem)) (o : Option O) : Prop :=
  ∀ (l : Launch) (D : va_G) (sz : Nat), Shp z kd → ∀ out, o = some out →
    Met l y (ws_ y cc nL ret) ({ frames := fr, cells := 0, slots := 0, locals := lo }) (va_Pc vals (xPre D cs z sz kd σ)) (xPost D cs z sz kd (fin out)) 0 0 (xA z)
abbrev Gx (p : Program) (l : Launch) (e : Env) (fr lo : Nat) (s : State) (m : MethodId) (args : Array Value) (below : List Frame) (meth : Method) (c : Code) (nL : Nat) (c0 k0 : Nat × Nat) (D : va_G) (cs : Cs) (z sz : Nat) (kd : Kd) {O : Type} (pc : Nat) (ls : List (Nat × Value)) (st : List Value) (σ : Ptr × Mem) (q : O → En) (o : Option O) : Prop :=
  G p l e fr lo s m args below meth c nL c0 (xRep D cs z sz kd) (fun _ => k0) (xA z) pc ls st σ q o
theorem CtX.of {cs : Cs} {z : Nat} {kd : Kd} {y : MethodName} {cc : ByteArray} {nL : Nat} {ret : Option FieldType} {fr lo : Nat} {vals : List Value} {σ : Ptr × Mem} {O : Type} {fin : O → Option Value × (Ptr × Mem)} {o : Option O} (own : String)
    (hy : plainName y.cls = true) (hyc : y.cls = own) (hlen : (lg_sl vals).length ≤ nL)
    (h : ∀ (l : Launch) (D : va_G) (sz : Nat) (p : Program) (e : Env) (s : State) (m : MethodId) (args : Array Value) (below : List Frame) (meth : Method) (c : Code), Shp z kd → CallFix p m c cc nL s args lw_all own → meth.sig.returnType = ret → meth.locks = false → xK D cs z s →
      Gx p l e fr lo s m args below meth c nL (0, 0) (0, 0) D cs z sz kd 0 (lv_args 0 vals) [] σ (xq D cs z sz kd s args below fin) o) : CtX cs z kd y cc nL ret fr lo vals σ fin o := by
  intro l D sz hsh out ho
  refine Met.ofW (cc := cc) (maxL := nL) (ret := ret) hy rfl ?_
  intro p e s m args below meth c s₁ B hml hv
  obtain ⟨rfl, hP, hK⟩ := hv
  have hts := atoms_spec (ws := ws_ y cc nL ret) B.pre
  have hts : ∀ w ∈ lw_all, w.before _ s = true := fun w h => hts w (List.mem_cons_of_mem _ h)
  have hown : s.vm.findClass own = some m.cls := by rw [← hyc]; exact findClass_of_methodNamed B.named
  have hl := lv_entry vals (n := nL) hlen
  rw [lg_entry_eq]
  exact (h l D sz p e s m _ below meth c hsh ⟨B.exec, B.bytes, hml, hown, hts⟩ B.returns B.notSynchronized hK out ho (Nat.le_refl _) (Nat.le_refl _)).2 s.heap [] _ hP va_S.rf hl

section GX
variable {p : Program} {l : Launch} {e : Env} {fr lo : Nat} {s : State} {m : MethodId} {args : Array Value} {below : List Frame} {meth : Method} {c : Code} {nL : Nat} {c0 k0 : Nat × Nat} {D : va_G} {cs : Cs} {z sz : Nat} {kd : Kd} {O : Type} {pc : Nat} {ls : List (Nat × Value)} {st : List Value} {σ : Ptr × Mem} {P : Ptr} {I : Mem} {q : O → En} {o : Option O} {cc : ByteArray} {own : String}

theorem xset {P1 : Ptr} {I1 : Mem} {H H1 : Heap} {a : Nat} (hR : xRep D cs z sz kd (P, I) H) (hz : H1.size = H.size) (oq : ∀ q, q ≠ a → H1[q]? = H[q]?) (hP : ∀ b, b ≠ a → P1 b = P b) (hI : ∀ b, b ≠ a → I1 b = I b) (ha : va_at D clX (a, cellE cs z (kd a) a (P1 a) (I1 a)) H1) : xRep D cs z sz kd (P1, I1) H1 := by
  refine ⟨hz.trans hR.1, fun b hb => ?_⟩
  by_cases h : b = a
  · subst h; exact ha
  · have := hR.2 b hb
    show va_at D clX (b, cellE cs z (kd b) b (P1 b) (I1 b)) H1
    rw [hP b h, hI b h]
    exact this.kept (oq b h)
theorem w_putK {R : Room} {H : Heap} {locs : List Loc} {ce sl : Nat} {Q : State → Prop} {la : Array Slot} {rest : List Value} (K : CallFix p m c cc nL s args lw_all own) (hK : va_K D clX (xtys cs) s) {C : String} {T : u_T} {N ci index a : Nat} (hin : ∀ w ∈ u_ws C T N, w ∈ lw_all) (ty0 : Nat → FieldType) (hty : ∀ k, k < N → parseFieldDescriptor (T k).2.2.1 = some (ty0 k)) (hnm : ∀ a, a < N → ∀ b, b < N → a ≠ b → (T a).2.1 ≠ (T b).2.1) {fs : List Value} (hat : va_at D clX (a, .inr (ci, fs)) H) (hc : clX[ci]? = some (C, T, N)) (k : Nat) (hk : k < N)
    (hlink : Cond.fieldLink own index (T k).1 (T k).2.1 (T k).2.2.1 ∈ lw_all ∨ va_Nw (.fieldLinkNest own index (T k).1 (T k).2.1 (T k).2.2.1 "GingerRents") s) (hfin : (T k).2.2.2 = false) {ty : FieldType} {v : Value} (hd : parseFieldDescriptor (T k).2.2.1 = some ty) (hn : narrow ty v = v) (hfit : fits ty v = true) (hl : k < fs.length) (hdg : decode cc pc = .ok (.putfield index, 3))
    (kk : ∀ (H1 : Heap) (j : Nat), va_at D clX (a, .inr (ci, fs.set k v)) H1 → H1.size = H.size → (∀ q, q ≠ a → H1[q]? = H[q]?) → W p l e R s m args below meth c H1 (locs ++ [⟨a, j⟩]) ce sl Q (F0 m (pc + 3) la rest)) : W p l e R s m args below meth c H locs ce sl Q (F0 m pc la (v :: .ref a :: rest)) := by
  obtain ⟨hx, hb, -, hown, hts⟩ := K
  have hap := va_apart (own := own) hts hin ty0 hty hnm hK hc
  obtain ⟨r, h1, cell, q1, q2, q3, q4⟩ := hat
  have hr : r = (C, T, N) := Option.some.inj (h1.symm.trans hc)
  subst hr
  obtain ⟨hS, hfc, kC, hkC, hkind⟩ := hK.1 ci _ hc
  obtain ⟨cf, kf, fi, f, hi, hsl⟩ := hS k hk
  have hlay := hts _ (hin _ (u_in_lay hk))
  unfold u_lay at hlay
  rw [if_neg (by rw [hfin]; decide)] at hlay
  have hst := (u_facts hfc hkC (u_lays hts hin hk) hi).1
  have h6 := u_store hfc hkC hkind hlay hi hd hn hfit
  have fin : ∀ (H' : Heap), H'[a]? = some (cell.setSlot f.slot v) → H'.size = H.size → (∀ q, q ≠ a → H'[q]? = H[q]?) → W p l e R s m args below meth c H' (locs ++ [⟨a, f.slot⟩]) ce sl Q (F0 m (pc + 3) la rest) := fun H' e1 e2 e3 => by
    rw [hsl] at e1 ⊢
    exact kk H' _ ⟨_, hc, t_OB.to (V := updV (vp_V fs) k v) ⟨_, e1, q2, q3, t_set q4 hap hk v⟩ (fun j _ => vp_updV_set hl v j)⟩ e2 e3
  rcases hlink with hlink | hlink
  · exact W.putK hx hb (f := f) ⟨hown, hts _ hlink, ⟨_, _, _, hi⟩, hst⟩ (by rw [q2]; exact h6) q1 q3 (by rw [hsl]; exact k2_hasslot (q4 k hk)) rfl rfl hdg fin
  · exact va_WputK hx hb (f := f) hown (va_Nw.use rfl hlink) hi hst (by rw [q2]; exact h6) q1 q3 (by rw [hsl]; exact k2_hasslot (q4 k hk)) rfl rfl hdg fin
theorem w_getK {R : Room} {H : Heap} {locs : List Loc} {ce sl : Nat} {Q : State → Prop} {la : Array Slot} {rest : List Value} (K : CallFix p m c cc nL s args lw_all own) (hK : va_K D clX (xtys cs) s) {C : String} {T : u_T} {N ci index a : Nat} (hin : ∀ w ∈ u_ws C T N, w ∈ lw_all) {fs : List Value} (hat : va_at D clX (a, .inr (ci, fs)) H) (hc : clX[ci]? = some (C, T, N)) (k : Nat) (hk : k < N)
    (hlink : Cond.fieldLink own index (T k).1 (T k).2.1 (T k).2.2.1 ∈ lw_all ∨ va_Nw (.fieldLinkNest own index (T k).1 (T k).2.1 (T k).2.2.1 "GingerRents") s) {v : Value} (hv : fs[k]? = some v) (hdg : decode cc pc = .ok (.getfield index, 3))
    (kk : W p l e R s m args below meth c H locs ce sl Q (F0 m (pc + 3) la (v :: rest))) : W p l e R s m args below meth c H locs ce sl Q (F0 m pc la (.ref a :: rest)) := by
  obtain ⟨hx, hb, -, hown, hts⟩ := K
  have hP : va_P D clX [(a, .inr (ci, fs))] H := fun k q hk => by
    cases k with
    | zero => cases hk; exact hat
    | succ k => simp at hk
  rcases hlink with hlink | hlink
  · exact va_get (D := D) (cl := clX) (ci := ci) (C := C) (T := T) (N := N) hx hb hts hin hown hK hP 0 rfl hc k hk (hts _ hlink) (fun _ h9 => h9) hv hdg kk
  · exact va_getN (D := D) (cl := clX) (ci := ci) (C := C) (T := T) (N := N) hx hb hts hin hown hK hP 0 rfl hc k hk (va_Nw.use rfl hlink) (fun _ h9 => h9) hv hdg kk


theorem gx_get (K : CallFix p m c cc nL s args lw_all own) (hK : xK D cs z s) (hsh : Shp z kd) {C : String} {T : u_T} {N ci index a : Nat} {t : Nat × Nat × Nat} {fs : List Value} (k : Nat) {v : Value} (n : Nat) (hin : ∀ w ∈ u_ws C T N, w ∈ lw_all) (hka : kd a = t) (he : cellE cs z t a (P a) (I a) = .inr (ci, fs)) (h90 : t.1 < 90) (hc : clX[ci]? = some (C, T, N)) (hk : k < N)
    (hlink : Cond.fieldLink own index (T k).1 (T k).2.1 (T k).2.2.1 ∈ lw_all ∨ va_Nw (.fieldLinkNest own index (T k).1 (T k).2.1 (T k).2.2.1 "GingerRents") s) (hv : fs[k]? = some v) (hd : decode cc pc = .ok (.getfield index, 3)) (hn : pc + 3 = n) (g : Gx p l e fr lo s m args below meth c nL c0 k0 D cs z sz kd n ls (v :: st) (P, I) q o) : Gx p l e fr lo s m args below meth c nL c0 k0 D cs z sz kd pc ls (.ref a :: st) (P, I) q o := by
  subst hn
  intro out ho h1 h2
  have g' := g out ho h1 h2
  refine ⟨g'.1, fun H locs la hR hS hl => ?_⟩
  have hat := hR.2 a (by rw [hka]; exact h90)
  rw [hka, he] at hat
  exact w_getK K hK.1 hin hat hc k hk hlink hv hd (g'.2 H locs la hR hS hl)
/-- a pointer field that moves: not null, of a kind -/
theorem gx_getp (K : CallFix p m c cc nL s args lw_all own) (hK : xK D cs z s) (hsh : Shp z kd) {C : String} {T : u_T} {N ci index a : Nat} {t : Nat × Nat × Nat} {fs : List Value} (k : Nat) (kt : Nat × Nat × Nat) {kk : Nat → Option O} (n : Nat) (hin : ∀ w ∈ u_ws C T N, w ∈ lw_all) (hka : kd a = t) (he : cellE cs z t a (P a) (I a) = .inr (ci, fs)) (h90 : t.1 < 90) (hc : clX[ci]? = some (C, T, N)) (hk : k < N)
    (hlink : Cond.fieldLink own index (T k).1 (T k).2.1 (T k).2.2.1 ∈ lw_all ∨ va_Nw (.fieldLinkNest own index (T k).1 (T k).2.1 (T k).2.2.1 "GingerRents") s) (hv : fs[k]? = some (va_rf (P a k))) (hd : decode cc pc = .ok (.getfield index, 3)) (hn : pc + 3 = n) (g : ∀ b, kd b = kt → Gx p l e fr lo s m args below meth c nL c0 k0 D cs z sz kd n ls (.ref b :: st) (P, I) q (kk b)) : Gx p l e fr lo s m args below meth c nL c0 k0 D cs z sz kd pc ls (.ref a :: st) (P, I) q ((pk kd (P a k) kt).bind kk) := by
  intro out ho
  obtain ⟨b, hb, hk2⟩ := Option.bind_eq_some_iff.mp ho
  obtain ⟨h3, h4⟩ := pk_some hb
  exact gx_get K hK hsh k n hin hka he h90 hc hk hlink (by rw [hv, h3]; rfl) hd hn (g b h4) out hk2
theorem gx_put (K : CallFix p m c cc nL s args lw_all own) (hK : xK D cs z s) (hsh : Shp z kd) {C : String} {T : u_T} {N ci index a : Nat} {t : Nat × Nat × Nat} {fs : List Value} (k : Nat) {x : Int32} {ty : FieldType} {kk : Mem → Option O} (n : Nat) (hin : ∀ w ∈ u_ws C T N, w ∈ lw_all) (ty0 : Nat → FieldType) (hty : ∀ k, k < N → parseFieldDescriptor (T k).2.2.1 = some (ty0 k)) (hnm : ∀ a, a < N → ∀ b, b < N → a ≠ b → (T a).2.1 ≠ (T b).2.1) (hka : kd a = t) (he : cellE cs z t a (P a) (I a) = .inr (ci, fs)) (he2 : cellE cs z t a (P a) (upd (I a) k x) = .inr (ci, fs.set k (.int x))) (h90 : t.1 < 90) (hc : clX[ci]? = some (C, T, N)) (hk : k < N)
    (hlink : Cond.fieldLink own index (T k).1 (T k).2.1 (T k).2.2.1 ∈ lw_all ∨ va_Nw (.fieldLinkNest own index (T k).1 (T k).2.1 (T k).2.2.1 "GingerRents") s) (hfin : (T k).2.2.2 = false) (hpd : parseFieldDescriptor (T k).2.2.1 = some ty) (hnar : narrow ty (.int x) = .int x) (hfit : fits ty (.int x) = true) (hlen : k < fs.length) (hd : decode cc pc = .ok (.putfield index, 3)) (hn : pc + 3 = n) (g : ∀ I1, I1 = up2 I a k x → Gx p l e fr lo s m args below meth c nL c0 k0 D cs z sz kd n ls st (P, I1) q (kk I1)) : Gx p l e fr lo s m args below meth c nL c0 k0 D cs z sz kd pc ls (.int x :: .ref a :: st) (P, I) q (nm (up2 I a k x) kk) := by
  subst hn
  intro out ho h1 h2
  have g' := g _ rfl out ho h1 h2
  refine ⟨g'.1, fun H locs la hR hS hl => ?_⟩
  have hA := sh_xA hsh (a := a) (by rw [hka]; exact h90)
  have hat := hR.2 a (by rw [hka]; exact h90)
  rw [hka, he] at hat
  refine w_putK K hK.1 hin ty0 hty hnm hat hc k hk hlink hfin hpd hnar hfit hlen hd (fun H1 j hat1 hz oq => ?_)
  refine g'.2 H1 _ la (xset hR hz oq (fun _ _ => rfl) (fun b hb => if_neg hb) ?_) (hS.put hz oq hA) hl
  rw [hka, show up2 I a k x a = upd (I a) k x from if_pos rfl, he2]
  exact hat1
theorem gx_putp (K : CallFix p m c cc nL s args lw_all own) (hK : xK D cs z s) (hsh : Shp z kd) {C : String} {T : u_T} {N ci index a b : Nat} {t : Nat × Nat × Nat} {fs : List Value} (k : Nat) {ty : FieldType} {kk : Ptr → Option O} (n : Nat) (hin : ∀ w ∈ u_ws C T N, w ∈ lw_all) (ty0 : Nat → FieldType) (hty : ∀ k, k < N → parseFieldDescriptor (T k).2.2.1 = some (ty0 k)) (hnm : ∀ a, a < N → ∀ b, b < N → a ≠ b → (T a).2.1 ≠ (T b).2.1) (hka : kd a = t) (he : cellE cs z t a (P a) (I a) = .inr (ci, fs)) (he2 : cellE cs z t a (va_up (P a) k (some b)) (I a) = .inr (ci, fs.set k (.ref b))) (h90 : t.1 < 90) (hc : clX[ci]? = some (C, T, N)) (hk : k < N)
    (hlink : Cond.fieldLink own index (T k).1 (T k).2.1 (T k).2.2.1 ∈ lw_all ∨ va_Nw (.fieldLinkNest own index (T k).1 (T k).2.1 (T k).2.2.1 "GingerRents") s) (hfin : (T k).2.2.2 = false) (hpd : parseFieldDescriptor (T k).2.2.1 = some ty) (hnar : narrow ty (.ref b) = .ref b) (hfit : fits ty (.ref b) = true) (hlen : k < fs.length) (hd : decode cc pc = .ok (.putfield index, 3)) (hn : pc + 3 = n) (g : ∀ P1, P1 = upP P a k (some b) → Gx p l e fr lo s m args below meth c nL c0 k0 D cs z sz kd n ls st (P1, I) q (kk P1)) : Gx p l e fr lo s m args below meth c nL c0 k0 D cs z sz kd pc ls (.ref b :: .ref a :: st) (P, I) q (nm (upP P a k (some b)) kk) := by
  subst hn
  intro out ho h1 h2
  have g' := g _ rfl out ho h1 h2
  refine ⟨g'.1, fun H locs la hR hS hl => ?_⟩
  have hA := sh_xA hsh (a := a) (by rw [hka]; exact h90)
  have hat := hR.2 a (by rw [hka]; exact h90)
  rw [hka, he] at hat
  refine w_putK K hK.1 hin ty0 hty hnm hat hc k hk hlink hfin hpd hnar hfit hlen hd (fun H1 j hat1 hz oq => ?_)
  refine g'.2 H1 _ la (xset hR hz oq (fun b hb => if_neg hb) (fun _ _ => rfl) ?_) (hS.put hz oq hA) hl
  rw [hka, show upP P a k (some b) a = va_up (P a) k (some b) from if_pos rfl, he2]
  exact hat1
theorem gx_ald (K : CallFix p m c cc nL s args lw_all own) (hK : xK D cs z s) (hsh : Shp z kd) {a len inn : Nat} {i : Int32} {kk : Int32 → Option O} (n : Nat) (hka : kd a = (20, len, inn)) (hd : decode cc pc = .ok (.iaload, 1)) (hn : pc + 1 = n) (g : ∀ v, Gx p l e fr lo s m args below meth c nL c0 k0 D cs z sz kd n ls (.int v :: st) (P, I) q (kk v)) : Gx p l e fr lo s m args below meth c nL c0 k0 D cs z sz kd pc ls (.int i :: .ref a :: st) (P, I) q ((rd I a len i).bind kk) := by
  subst hn
  intro out ho h1 h2
  obtain ⟨v, hv, hk⟩ := Option.bind_eq_some_iff.mp ho
  have g' := g v out hk h1 h2
  refine ⟨g'.1, fun H locs la hR hS hl => ?_⟩
  have hat := hR.2 a (by rw [hka]; exact Nat.le_of_ble_eq_true rfl)
  rw [hka] at hat
  have hP : va_P D clX [(a, .inl (cs 0, len, .inl (I a)))] H := fun k q hk => by
    cases k with
    | zero => cases hk; exact hat
    | succ k => simp at hk
  unfold rd at hv
  split at hv
  · cases hv
  · next hin =>
    cases hv
    exact va_iald K.1 K.2.1 hK.1 hP 0 0 rfl rfl hin hd (g'.2 H locs la hR hS hl)
theorem gx_bld (K : CallFix p m c cc nL s args lw_all own) (hK : xK D cs z s) (hsh : Shp z kd) {a len inn : Nat} {i : Int32} {kk : Int32 → Option O} (n : Nat) (hka : kd a = (21, len, inn)) (hd : decode cc pc = .ok (.baload, 1)) (hn : pc + 1 = n) (g : ∀ v, Gx p l e fr lo s m args below meth c nL c0 k0 D cs z sz kd n ls (.int v :: st) (P, I) q (kk v)) : Gx p l e fr lo s m args below meth c nL c0 k0 D cs z sz kd pc ls (.int i :: .ref a :: st) (P, I) q ((rd I a len i).bind kk) := by
  subst hn
  intro out ho h1 h2
  obtain ⟨v, hv, hk⟩ := Option.bind_eq_some_iff.mp ho
  have g' := g v out hk h1 h2
  refine ⟨g'.1, fun H locs la hR hS hl => ?_⟩
  have hat := hR.2 a (by rw [hka]; exact Nat.le_of_ble_eq_true rfl)
  rw [hka] at hat
  have hP : va_P D clX [(a, .inl (cs 1, len, .inl (I a)))] H := fun k q hk => by
    cases k with
    | zero => cases hk; exact hat
    | succ k => simp at hk
  unfold rd at hv
  split at hv
  · cases hv
  · next hin =>
    cases hv
    exact va_bald K.1 K.2.1 hK.1 hP 0 1 rfl rfl hin hd (g'.2 H locs la hR hS hl)
theorem gx_ast (K : CallFix p m c cc nL s args lw_all own) (hK : xK D cs z s) (hsh : Shp z kd) {a len inn : Nat} {i x : Int32} {kk : Mem → Option O} (n : Nat) (hka : kd a = (20, len, inn)) (hd : decode cc pc = .ok (.iastore, 1)) (hn : pc + 1 = n) (g : ∀ I1, Gx p l e fr lo s m args below meth c nL c0 k0 D cs z sz kd n ls st (P, I1) q (kk I1)) : Gx p l e fr lo s m args below meth c nL c0 k0 D cs z sz kd pc ls (.int x :: .int i :: .ref a :: st) (P, I) q ((wr I a len i x).bind kk) := by
  subst hn
  intro out ho h1 h2
  obtain ⟨v, hv, hk⟩ := Option.bind_eq_some_iff.mp ho
  have g' := g v out hk h1 h2
  refine ⟨g'.1, fun H locs la hR hS hl => ?_⟩
  have hA := sh_xA hsh (a := a) (by rw [hka]; exact Nat.le_of_ble_eq_true rfl)
  have hat := hR.2 a (by rw [hka]; exact Nat.le_of_ble_eq_true rfl)
  rw [hka] at hat
  unfold wr at hv
  split at hv
  · cases hv
  · next hin =>
    cases hv
    have hlt : i.toNatClampNeg < len := Nat.not_le.mp fun q => hin (Or.inr q)
    refine W.iast K.1 K.2.1 hat ((hK.1.2 0 _ rfl).1 len (fun j => .int (I a j))) (fun q => by cases q) (by show ¬ (i < 0 ∨ (arrV _ _ _).slots.size ≤ _); rw [arrV_size]; exact hin) rfl rfl hd fun H1 e1 hz oq => ?_
    refine g'.2 H1 _ la (xset hR hz oq (fun _ _ => rfl) (fun b hb => if_neg hb) ?_) (hS.put hz oq hA) hl
    rw [hka, show up2 I a i.toNatClampNeg x a = upd (I a) i.toNatClampNeg x from if_pos rfl]
    show H1[a]? = some (vp_cell _ _)
    rw [e1]
    have hcel : vp_cell (cs 0) (len, .inl (I a)) = arrV (cs 0) len (fun j => .int (I a j)) := rfl
    show some ((vp_cell (cs 0) (len, .inl (I a))).setSlot _ _) = some (arrV (cs 0) len (fun j => .int (upd (I a) i.toNatClampNeg x j)))
    rw [hcel, arrV_store]
    congr 2
    funext q
    by_cases hq : q = i.toNatClampNeg
    · subst hq
      simp [updV, upd]
    · simp [updV, upd, hq]
/-- an element of an array of arrays, of the houses: it lies where the layout says -/
theorem gx_aal (K : CallFix p m c cc nL s args lw_all own) (hK : xK D cs z s) (hsh : Shp z kd) {a len inn : Nat} {i : Int32} {kk : Nat → Option O} (n : Nat) (hka : kd a = (22, len, inn)) (hd : decode cc pc = .ok (.aaload, 1)) (hn : pc + 1 = n) (g : ∀ j, j < len → Gx p l e fr lo s m args below meth c nL c0 k0 D cs z sz kd n ls (.ref (a + 1 + j) :: st) (P, I) q (kk j)) : Gx p l e fr lo s m args below meth c nL c0 k0 D cs z sz kd pc ls (.int i :: .ref a :: st) (P, I) q ((ix len i).bind kk) := by
  subst hn
  intro out ho h1 h2
  obtain ⟨j, hj, hk⟩ := Option.bind_eq_some_iff.mp ho
  obtain ⟨hin, hij, hlt⟩ := ix_some hj
  have g' := g j hlt out hk h1 h2
  refine ⟨g'.1, fun H locs la hR hS hl => ?_⟩
  have hat := hR.2 a (by rw [hka]; exact Nat.le_of_ble_eq_true rfl)
  rw [hka] at hat
  subst hij
  exact W.aald (v := .ref (a + 1 + i.toNatClampNeg)) (ty := .array .int) K.1 K.2.1 hat ((hK.1.2 2 _ rfl).1 len (fun j => va_rf (some (a + 1 + j)))) rfl (fun q => by cases q) (by show ¬ (i < 0 ∨ (arrV _ _ _).slots.size ≤ _); rw [arrV_size]; exact hin) (by show (arrV _ _ _).slots[_]? = _; rw [arrV_read _ _ hlt]; rfl) rfl rfl hd (g'.2 H locs la hR hS hl)
theorem gx_hal (K : CallFix p m c cc nL s args lw_all own) (hK : xK D cs z s) (hsh : Shp z kd) {a : Nat} {i : Int32} {kk : Nat → Option O} (n : Nat) (hka : kd a = (23, 12, 0)) (hd : decode cc pc = .ok (.aaload, 1)) (hn : pc + 1 = n) (g : ∀ j, j < 12 → Gx p l e fr lo s m args below meth c nL c0 k0 D cs z sz kd n ls (.ref (a + 244 + 2 * j) :: st) (P, I) q (kk j)) : Gx p l e fr lo s m args below meth c nL c0 k0 D cs z sz kd pc ls (.int i :: .ref a :: st) (P, I) q ((ix 12 i).bind kk) := by
  subst hn
  intro out ho h1 h2
  obtain ⟨j, hj, hk⟩ := Option.bind_eq_some_iff.mp ho
  obtain ⟨hin, hij, hlt⟩ := ix_some hj
  have g' := g j hlt out hk h1 h2
  refine ⟨g'.1, fun H locs la hR hS hl => ?_⟩
  have hat := hR.2 a (by rw [hka]; exact Nat.le_of_ble_eq_true rfl)
  rw [hka] at hat
  subst hij
  exact W.aald (v := .ref (a + 244 + 2 * i.toNatClampNeg)) (ty := .object RX3) K.1 K.2.1 hat ((hK.1.2 3 _ rfl).1 12 (fun j => va_rf (some (a + 244 + 2 * j)))) rfl (fun q => by cases q) (by show ¬ (i < 0 ∨ (arrV _ _ _).slots.size ≤ _); rw [arrV_size]; exact hin) (by show (arrV _ _ _).slots[_]? = _; rw [arrV_read _ _ hlt]; rfl) rfl rfl hd (g'.2 H locs la hR hS hl)
theorem gx_len (K : CallFix p m c cc nL s args lw_all own) (hK : xK D cs z s) (hsh : Shp z kd) {a k len inn : Nat} (n : Nat) (hka : kd a = (k, len, inn)) (hk : k = 20 ∨ k = 22) (hd : decode cc pc = .ok (.arraylength, 1)) (hn : pc + 1 = n) (g : Gx p l e fr lo s m args below meth c nL c0 k0 D cs z sz kd n ls (.int (nI len) :: st) (P, I) q o) : Gx p l e fr lo s m args below meth c nL c0 k0 D cs z sz kd pc ls (.ref a :: st) (P, I) q o := by
  subst hn
  intro out ho h1 h2
  have g' := g out ho h1 h2
  refine ⟨g'.1, fun H locs la hR hS hl => ?_⟩
  rcases hk with rfl | rfl
  · have hat := hR.2 a (by rw [hka]; exact Nat.le_of_ble_eq_true rfl)
    rw [hka] at hat
    have hP : va_P D clX [(a, .inl (cs 0, len, .inl (I a)))] H := fun k q hk => by
      cases k with
      | zero => cases hk; exact hat
      | succ k => simp at hk
    exact va_alen (v := nI len) K.1 K.2.1 hK.1 hP 0 0 rfl rfl rfl hd (g'.2 H locs la hR hS hl)
  · have hat := hR.2 a (by rw [hka]; exact Nat.le_of_ble_eq_true rfl)
    rw [hka] at hat
    have hP : va_P D clX [(a, .inl (cs 2, len, .inr (.inr (.inr (.inr (fun j => some (a + 1 + j)))))))] H := fun k q hk => by
      cases k with
      | zero => cases hk; exact hat
      | succ k => simp at hk
    exact va_alen (v := nI len) K.1 K.2.1 hK.1 hP 0 2 rfl rfl rfl hd (g'.2 H locs la hR hS hl)
theorem gx_iret (K : CallFix p m c cc nL s args lw_all own) (hK : xK D cs z s) (hsh : Shp z kd) (hr : meth.sig.returnType = some .int) (hlk : meth.locks = false) {v : Int32} {r : O} {fin : O → Option Value × (Ptr × Mem)} (hd : decode cc pc = .ok (.ireturn, 1)) (hfin : fin r = (some (.int v), (P, I))) : Gx p l e fr lo s m args below meth c nL (0, 0) (0, 0) D cs z sz kd pc ls [.int v] (P, I) (xq D cs z sz kd s args below fin) (some r) := by
  intro out ho h1 h2
  cases ho
  refine ⟨⟨Nat.le_refl _, Nat.le_refl _⟩, fun H locs la hR hS hl => ?_⟩
  exact W.iret K.1 K.2.1 hr (fun t ht hW => ⟨⟨by rw [hfin], by rw [hfin, ht]; exact hR⟩, hS.F ht⟩) hS.2.2 hd hlk
theorem gx_zret (K : CallFix p m c cc nL s args lw_all own) (hK : xK D cs z s) (hsh : Shp z kd) (hr : meth.sig.returnType = some .boolean) (hlk : meth.locks = false) {v : Int32} {b : Bool} {r : O} {fin : O → Option Value × (Ptr × Mem)} (hd : decode cc pc = .ok (.ireturn, 1)) (hv : v = bI b) (hfin : fin r = (some (.int (bI b)), (P, I))) : Gx p l e fr lo s m args below meth c nL (0, 0) (0, 0) D cs z sz kd pc ls [.int v] (P, I) (xq D cs z sz kd s args below fin) (some r) := by
  intro out ho h1 h2
  cases ho
  subst hv
  refine ⟨⟨Nat.le_refl _, Nat.le_refl _⟩, fun H locs la hR hS hl => ?_⟩
  exact W.zret K.1 K.2.1 hr (by cases b <;> rfl) (fun t ht hW => ⟨⟨by rw [hfin], by rw [hfin, ht]; exact hR⟩, hS.F ht⟩) hS.2.2 hd hlk
theorem gx_vret (K : CallFix p m c cc nL s args lw_all own) (hK : xK D cs z s) (hsh : Shp z kd) (hr : meth.sig.returnType = none) (hlk : meth.locks = false) {r : O} {fin : O → Option Value × (Ptr × Mem)} (hd : decode cc pc = .ok (.return_, 1)) (hfin : fin r = (none, (P, I))) : Gx p l e fr lo s m args below meth c nL (0, 0) (0, 0) D cs z sz kd pc ls [] (P, I) (xq D cs z sz kd s args below fin) (some r) := by
  intro out ho h1 h2
  cases ho
  refine ⟨⟨Nat.le_refl _, Nat.le_refl _⟩, fun H locs la hR hS hl => ?_⟩
  exact W.vret K.1 K.2.1 hr (fun t ht hW => ⟨⟨by rw [hfin], by rw [hfin, ht]; exact hR⟩, hS.F ht⟩) hS.2.2 hd hlk
theorem gx_aret (K : CallFix p m c cc nL s args lw_all own) (hK : xK D cs z s) (hsh : Shp z kd) {nm : String} (hr : meth.sig.returnType = some (.object nm)) (hlk : meth.locks = false) {v : Nat} {r : O} {fin : O → Option Value × (Ptr × Mem)} (hd : decode cc pc = .ok (.areturn, 1)) (hfin : fin r = (some (.ref v), (P, I))) : Gx p l e fr lo s m args below meth c nL (0, 0) (0, 0) D cs z sz kd pc ls [.ref v] (P, I) (xq D cs z sz kd s args below fin) (some r) := by
  intro out ho h1 h2
  cases ho
  refine ⟨⟨Nat.le_refl _, Nat.le_refl _⟩, fun H locs la hR hS hl => ?_⟩
  exact W.aret K.1 K.2.1 hr (Or.inl ⟨_, rfl⟩) (Or.inr ⟨_, rfl⟩) (fun t ht hW => ⟨⟨by rw [hfin], by rw [hfin, ht]; exact hR⟩, hS.F ht⟩) hS.2.2 hd hlk
/-- a call on an object of a known kind -/
theorem gx_call (K : CallFix p m c cc nL s args lw_all own) (hK : xK D cs z s) (hsh : Shp z kd) {y : MethodName} {bytes : ByteArray} {maxL index a ci : Nat} {C : String} {T : u_T} {N : Nat} {t : Nat × Nat × Nat} {fs : List Value} {ret : Option FieldType} {fr' lo' : Nat} {vals stk : List Value} {O' : Type} {fin' : O' → Option Value × (Ptr × Mem)} {o' : Option O'} {kk : O' → Option O} (n : Nat) (hC : CtX cs z kd y bytes maxL ret fr' lo' (.ref a :: vals) (P, I) fin' o') (hw : GoodIn lw_all (wsV own index C y (ws_ y bytes maxL ret)))
    (hdd : y.cls = C ∧ y.cls ≠ "java/lang/invoke/MethodHandle" ∧ y.cls ≠ "java/lang/invoke/VarHandle" ∧ (parseMethodDescriptor y.desc).map (fun d => d.parameters.length) = some vals.length) (hka : kd a = t) (he : cellE cs z t a (P a) (I a) = .inr (ci, fs)) (h90 : t.1 < 90) (hc : clX[ci]? = some (C, T, N)) (hroom : fr' + 1 ≤ fr ∧ 8 + (maxL + 11) + lo' ≤ lo) (hstk : stk = vals.reverse ++ .ref a :: st) (hcat : (st.map fun v => v.category).sum ≤ 8)
    (hd : decode cc pc = .ok (.invokevirtual index, 3)) (hn : pc + 3 = n) (g : ∀ r, o' = some r → Gx p l e fr lo s m args below meth c nL c0 k0 D cs z sz kd n ls ((fin' r).1.toList ++ st) (fin' r).2 q (kk r)) : Gx p l e fr lo s m args below meth c nL c0 k0 D cs z sz kd pc ls stk (P, I) q (o'.bind kk) := by
  subst hn
  subst hstk
  intro out ho h1 h2
  obtain ⟨r, hr, hk⟩ := Option.bind_eq_some_iff.mp ho
  have g' := g r hr out hk h1 h2
  refine ⟨g'.1, fun H locs la hR hS hl => ?_⟩
  have hat := hR.2 a (by rw [hka]; exact h90)
  rw [hka, he] at hat
  have hP : va_P D clX [(a, .inr (ci, fs))] H := fun k q hk => by
    cases k with
    | zero => cases hk; exact hat
    | succ k => simp at hk
  intro T0 hT X
  obtain ⟨v, st₀, t, T', L, h0, X', hL, e1, e2, ⟨⟨hv, hP1⟩, hF⟩, stp⟩ := va_runV (As := vals) (rest := st) K (hC l D sz hsh r hr) (cwV vals.length K.2.2.2.2 hw rfl rfl rfl hdd hroom) ⟨fun a U g mk q => by obtain ⟨q0, q1, q2⟩ := q; exact ⟨q0, q1, xK.same rfl rfl q2⟩, va_recv hK.1 hP (ci := ci) (q0 := 0) hc rfl, fun U hU hW => ⟨rfl, by rw [hU]; exact hR, xK.warm hW hS hU hK⟩⟩ rfl rfl hl.1 rfl (lv_room hcat) hd ⟨Nat.sub_le_sub_right g'.1.1 _, Nat.sub_le_sub_right g'.1.2 _⟩ T0 hT X
  cases hv
  have hz : H.size ≤ t.heap.size := by rw [← h0]; exact hF.1
  have hS1 : va_S (xA z) s.heap T'.heap (locs ++ L) := by
    refine ⟨by rw [e1]; exact Nat.le_trans hS.1 hz, fun x hx hxA => ?_, fun z hzz => ?_⟩
    · rw [e1, hF.2 x (by rw [h0]; exact Nat.lt_of_lt_of_le hx hS.1) hxA, h0]
      exact hS.2.1 x hx hxA
    · rcases List.mem_append.mp hzz with h | h
      · exact hS.2.2 z h
      · exact hL z h
  obtain ⟨t2, a1, b1⟩ := g'.2 T'.heap (locs ++ L) la (by rw [e1]; exact hP1) hS1 hl T' rfl X'
  exact ⟨t2, stp t2 a1, b1⟩

theorem gx_pal (K : CallFix p m c cc nL s args lw_all own) (hK : xK D cs z s) (hsh : Shp z kd) {a len inn : Nat} {i : Int32} (kt : Nat × Nat × Nat) {kk : Nat → Option O} (n : Nat) (hka : kd a = (24, len, inn)) (hd : decode cc pc = .ok (.aaload, 1)) (hn : pc + 1 = n) (g : ∀ b, kd b = kt → Gx p l e fr lo s m args below meth c nL c0 k0 D cs z sz kd n ls (.ref b :: st) (P, I) q (kk b)) : Gx p l e fr lo s m args below meth c nL c0 k0 D cs z sz kd pc ls (.int i :: .ref a :: st) (P, I) q ((pix kd P a len i kt).bind kk) := by
  subst hn
  intro out ho h1 h2
  obtain ⟨b, hb, hk⟩ := Option.bind_eq_some_iff.mp ho
  obtain ⟨j, hj, hb⟩ := Option.bind_eq_some_iff.mp hb
  obtain ⟨hin, hij, hlt⟩ := ix_some hj
  obtain ⟨h3, h4⟩ := pk_some hb
  have g' := g b h4 out hk h1 h2
  refine ⟨g'.1, fun H locs la hR hS hl => ?_⟩
  have hat := hR.2 a (by rw [hka]; exact Nat.le_of_ble_eq_true rfl)
  rw [hka] at hat
  subst hij
  exact W.aald (v := .ref b) (ty := .object RX1) K.1 K.2.1 hat ((hK.1.2 4 _ rfl).1 len (fun j => va_rf (P a j))) rfl (fun q => by cases q) (by show ¬ (i < 0 ∨ (arrV _ _ _).slots.size ≤ _); rw [arrV_size]; exact hin) (by show (arrV _ _ _).slots[_]? = _; rw [arrV_read _ _ hlt]; show some (va_rf (P a i.toNatClampNeg)) = _; rw [h3]; rfl) rfl rfl hd (g'.2 H locs la hR hS hl)
theorem gx_past (K : CallFix p m c cc nL s args lw_all own) (hK : xK D cs z s) (hsh : Shp z kd) {a len inn b : Nat} {i : Int32} {kk : Ptr → Option O} (n : Nat) (hka : kd a = (24, len, inn)) (hkb : kd b = (1, 0, 0)) (hd : decode cc pc = .ok (.aastore, 1)) (hn : pc + 1 = n) (g : ∀ P1, Gx p l e fr lo s m args below meth c nL c0 k0 D cs z sz kd n ls st (P1, I) q (kk P1)) : Gx p l e fr lo s m args below meth c nL c0 k0 D cs z sz kd pc ls (.ref b :: .int i :: .ref a :: st) (P, I) q ((wrP P a len i b).bind kk) := by
  subst hn
  intro out ho h1 h2
  obtain ⟨P1, hP1, hk⟩ := Option.bind_eq_some_iff.mp ho
  obtain ⟨j, hj, hP2⟩ := Option.map_eq_some_iff.mp hP1
  obtain ⟨hin, hij, hlt⟩ := ix_some hj
  have g' := g P1 out hk h1 h2
  refine ⟨g'.1, fun H locs la hR hS hl => ?_⟩
  have hA := sh_xA hsh (a := a) (by rw [hka]; exact Nat.le_of_ble_eq_true rfl)
  have hat := hR.2 a (by rw [hka]; exact Nat.le_of_ble_eq_true rfl)
  rw [hka] at hat
  have hbt := hR.2 b (by rw [hkb]; exact Nat.le_of_ble_eq_true rfl)
  rw [hkb] at hbt
  subst hij
  have h0 : ¬ i < 0 := fun q => hin (Or.inl q)
  obtain ⟨r', hr', cellV, g1, g2, g3, -⟩ := hbt
  have hcls := (hK.1.1 1 _ rfl).2
  obtain ⟨kA, comp, k1, k2, k3, -⟩ := (hK.1.2 4 _ rfl).2
  have hcomp : comp = D.1 1 := Option.some.inj (k3.symm.trans hcls.1)
  subst hcomp
  obtain ⟨kC, hkC, -⟩ := hcls.2
  refine W.aast K.1 K.2.1 hat (fun q h => by cases h) (fun h => by cases h) k1 k2 rfl hkC ⟨h0, by show _ < (arrV _ _ _).slots.size; rw [arrV_size]; exact hlt⟩ g1 (fun q h => by rw [g3] at h; cases h) (by rw [g2]; exact hkC) (by rw [g2]; exact va_assign hcls) rfl rfl hd fun H1 e1 hz oq => ?_
  refine g'.2 H1 _ la (xset hR hz oq (fun b hb => by rw [← hP2]; exact if_neg hb) (fun _ _ => rfl) ?_) (hS.put hz oq hA) hl
  rw [hka, ← hP2, show upP P a i.toNatClampNeg (some b) a = va_up (P a) i.toNatClampNeg (some b) from if_pos rfl]
  show H1[a]? = some (vp_cell _ _)
  rw [e1]
  have hcel : vp_cell (cs 4) (len, .inr (.inr (.inr (.inr (P a))))) = arrV (cs 4) len (fun j => va_rf (P a j)) := rfl
  show some ((vp_cell (cs 4) (len, .inr (.inr (.inr (.inr (P a)))))).setSlot _ _) = some (arrV (cs 4) len (fun j => va_rf (va_up (P a) i.toNatClampNeg (some b) j)))
  rw [hcel, arrV_store]
  congr 2
  funext q
  by_cases hq : q = i.toNatClampNeg
  · subst hq
    simp [updV, va_up, va_rf]
  · simp [updV, va_up, hq]
theorem gx_bst (K : CallFix p m c cc nL s args lw_all own) (hK : xK D cs z s) (hsh : Shp z kd) {a len inn : Nat} {i x : Int32} {kk : Mem → Option O} (n : Nat) (hka : kd a = (21, len, inn)) (hd : decode cc pc = .ok (.bastore, 1)) (hn : pc + 1 = n) (g : ∀ I1, Gx p l e fr lo s m args below meth c nL c0 k0 D cs z sz kd n ls st (P, I1) q (kk I1)) : Gx p l e fr lo s m args below meth c nL c0 k0 D cs z sz kd pc ls (.int x :: .int i :: .ref a :: st) (P, I) q ((wr I a len i (vp_nar .byte x)).bind kk) := by
  subst hn
  intro out ho h1 h2
  obtain ⟨v, hv, hk⟩ := Option.bind_eq_some_iff.mp ho
  have g' := g v out hk h1 h2
  refine ⟨g'.1, fun H locs la hR hS hl => ?_⟩
  have hA := sh_xA hsh (a := a) (by rw [hka]; exact Nat.le_of_ble_eq_true rfl)
  have hat := hR.2 a (by rw [hka]; exact Nat.le_of_ble_eq_true rfl)
  rw [hka] at hat
  unfold wr at hv
  split at hv
  · cases hv
  · next hin =>
    cases hv
    refine W.bast K.1 K.2.1 hat ((hK.1.2 1 _ rfl).1 len (fun j => .int (I a j))) (fun q => by cases q) (by show ¬ (i < 0 ∨ (arrV _ _ _).slots.size ≤ _); rw [arrV_size]; exact hin) rfl rfl hd fun H1 e1 hz oq => ?_
    refine g'.2 H1 _ la (xset hR hz oq (fun _ _ => rfl) (fun b hb => if_neg hb) ?_) (hS.put hz oq hA) hl
    rw [hka, show up2 I a i.toNatClampNeg (vp_nar .byte x) a = upd (I a) i.toNatClampNeg (vp_nar .byte x) from if_pos rfl]
    show H1[a]? = some (vp_cell _ _)
    rw [e1]
    have hcel : vp_cell (cs 1) (len, .inl (I a)) = arrV (cs 1) len (fun j => .int (I a j)) := rfl
    show some ((vp_cell (cs 1) (len, .inl (I a))).setSlot _ _) = some (arrV (cs 1) len (fun j => .int (upd (I a) i.toNatClampNeg (vp_nar .byte x) j)))
    rw [hcel, arrV_store]
    congr 2
    funext q
    by_cases hq : q = i.toNatClampNeg
    · subst hq
      simp [updV, upd, vp_nar, narrow]
    · simp [updV, upd, hq]
theorem gx_zb {v : Int32} {kk : Unit → Option O} (g : v = 0 ∨ v = 1 → Gx p l e fr lo s m args below meth c nL c0 k0 D cs z sz kd pc ls st σ q (kk ())) : Gx p l e fr lo s m args below meth c nL c0 k0 D cs z sz kd pc ls st σ q ((zb v).bind kk) := by
  intro out ho
  obtain ⟨r, hr, hk⟩ := Option.bind_eq_some_iff.mp ho
  unfold zb at hr
  split at hr
  · next h => exact g h out hk
  · cases hr


theorem gx_null (K : CallFix p m c cc nL s args lw_all own) (n : Nat) (hd : decode cc pc = .ok (.aconst_null, 1)) (hn : pc + 1 = n) (g : Gx p l e fr lo s m args below meth c nL c0 k0 D cs z sz kd n ls (.null :: st) σ q o) : Gx p l e fr lo s m args below meth c nL c0 k0 D cs z sz kd pc ls st σ q o := by
  subst hn
  exact G.map (fun R H locs ce sl Q la hl k => lv_null K.1 K.2.1 hd (k la hl)) g
/-- a pointer field, of any kind, not null -/
theorem gx_getq (K : CallFix p m c cc nL s args lw_all own) (hK : xK D cs z s) (hsh : Shp z kd) {C : String} {T : u_T} {N ci index a : Nat} {t : Nat × Nat × Nat} {fs : List Value} (k : Nat) {kk : Nat → Option O} (n : Nat) (hin : ∀ w ∈ u_ws C T N, w ∈ lw_all) (hka : kd a = t) (he : cellE cs z t a (P a) (I a) = .inr (ci, fs)) (h90 : t.1 < 90) (hc : clX[ci]? = some (C, T, N)) (hk : k < N)
    (hlink : Cond.fieldLink own index (T k).1 (T k).2.1 (T k).2.2.1 ∈ lw_all ∨ va_Nw (.fieldLinkNest own index (T k).1 (T k).2.1 (T k).2.2.1 "GingerRents") s) (hv : fs[k]? = some (va_rf (P a k))) (hd : decode cc pc = .ok (.getfield index, 3)) (hn : pc + 3 = n) (g : ∀ b, Gx p l e fr lo s m args below meth c nL c0 k0 D cs z sz kd n ls (.ref b :: st) (P, I) q (kk b)) : Gx p l e fr lo s m args below meth c nL c0 k0 D cs z sz kd pc ls (.ref a :: st) (P, I) q ((P a k).bind kk) := by
  intro out ho
  obtain ⟨b, hb, hk2⟩ := Option.bind_eq_some_iff.mp ho
  exact gx_get K hK hsh k n hin hka he h90 hc hk hlink (by rw [hv, hb]; rfl) hd hn (g b) out hk2
theorem gx_getk (K : CallFix p m c cc nL s args lw_all own) (hK : xK D cs z s) (hsh : Shp z kd) {C : String} {T : u_T} {N ci index a : Nat} {t : Nat × Nat × Nat} {fs : List Value} (k k2 : Nat) {kk : Nat → Option O} (n : Nat) (hin : ∀ w ∈ u_ws C T N, w ∈ lw_all) (hka : kd a = t) (he : cellE cs z t a (P a) (I a) = .inr (ci, fs)) (h90 : t.1 < 90) (hc : clX[ci]? = some (C, T, N)) (hk : k < N)
    (hlink : Cond.fieldLink own index (T k).1 (T k).2.1 (T k).2.2.1 ∈ lw_all ∨ va_Nw (.fieldLinkNest own index (T k).1 (T k).2.1 (T k).2.2.1 "GingerRents") s) (hv : fs[k]? = some (va_rf (P a k))) (hd : decode cc pc = .ok (.getfield index, 3)) (hn : pc + 3 = n) (g : ∀ b, kd b = (k2, (kd b).2.1, (kd b).2.2) → Gx p l e fr lo s m args below meth c nL c0 k0 D cs z sz kd n ls (.ref b :: st) (P, I) q (kk b)) : Gx p l e fr lo s m args below meth c nL c0 k0 D cs z sz kd pc ls (.ref a :: st) (P, I) q ((pkk kd (P a k) k2).bind kk) := by
  intro out ho
  obtain ⟨b, hb, hk2⟩ := Option.bind_eq_some_iff.mp ho
  obtain ⟨h3, h4⟩ := pkk_some hb
  exact gx_get K hK hsh k n hin hka he h90 hc hk hlink (by rw [hv, h3]; rfl) hd hn (g b h4) out hk2
/-- a pointer field, asked whether it is null -/
theorem gx_ifn (K : CallFix p m c cc nL s args lw_all own) (hK : xK D cs z s) (hsh : Shp z kd) {C : String} {T : u_T} {N ci index a : Nat} {t : Nat × Nat × Nat} {fs : List Value} (k : Nat) {o1 o2 : Option O} {inst : Decidable (P a k = none)} {off : Int} (n n2 t2 : Nat) (hin : ∀ w ∈ u_ws C T N, w ∈ lw_all) (hka : kd a = t) (he : cellE cs z t a (P a) (I a) = .inr (ci, fs)) (h90 : t.1 < 90) (hc : clX[ci]? = some (C, T, N)) (hk : k < N)
    (hlink : Cond.fieldLink own index (T k).1 (T k).2.1 (T k).2.2.1 ∈ lw_all ∨ va_Nw (.fieldLinkNest own index (T k).1 (T k).2.1 (T k).2.2.1 "GingerRents") s) (hv : fs[k]? = some (va_rf (P a k))) (hd : decode cc pc = .ok (.getfield index, 3)) (hn : pc + 3 = n) (hd2 : decode cc n = .ok (.ifnull off, 3)) (hn2 : n + 3 = n2) (ht2 : (n : Int) + off = (t2 : Int)) (g1 : Gx p l e fr lo s m args below meth c nL c0 k0 D cs z sz kd t2 ls st (P, I) q o1) (g2 : Gx p l e fr lo s m args below meth c nL c0 k0 D cs z sz kd n2 ls st (P, I) q o2) : Gx p l e fr lo s m args below meth c nL c0 k0 D cs z sz kd pc ls (.ref a :: st) (P, I) q (@ite _ (P a k = none) inst o1 o2) := by
  intro out ho
  by_cases hc2 : P a k = none
  · rw [if_pos hc2] at ho
    refine gx_get K hK hsh k n hin hka he h90 hc hk hlink (v := .null) (by rw [hv, hc2]; rfl) hd hn ?_ out ho
    exact G.map (fun R H locs ce sl Q la hl k => lv_ifnullN K.1 K.2.1 hd2 ht2 (k la hl)) g1
  · rw [if_neg hc2] at ho
    obtain ⟨b, hb⟩ : ∃ b, P a k = some b := by
      cases h : P a k with
      | none => exact absurd h hc2
      | some b => exact ⟨b, rfl⟩
    refine gx_get K hK hsh k n hin hka he h90 hc hk hlink (v := .ref b) (by rw [hv, hb]; rfl) hd hn ?_ out ho
    subst hn2
    exact G.map (fun R H locs ce sl Q la hl k => lv_ifnull K.1 K.2.1 hd2 (k la hl)) g2
theorem gx_oal (K : CallFix p m c cc nL s args lw_all own) (hK : xK D cs z s) (hsh : Shp z kd) {a len inn : Nat} {i : Int32} {kk : Nat → Option O} (n : Nat) (hka : kd a = (25, len, inn)) (hd : decode cc pc = .ok (.aaload, 1)) (hn : pc + 1 = n) (g : ∀ b, Gx p l e fr lo s m args below meth c nL c0 k0 D cs z sz kd n ls (.ref b :: st) (P, I) q (kk b)) : Gx p l e fr lo s m args below meth c nL c0 k0 D cs z sz kd pc ls (.int i :: .ref a :: st) (P, I) q ((pio P a len i).bind kk) := by
  subst hn
  intro out ho h1 h2
  obtain ⟨b, hb, hk⟩ := Option.bind_eq_some_iff.mp ho
  obtain ⟨j, hj, h3⟩ := Option.bind_eq_some_iff.mp hb
  obtain ⟨hin, hij, hlt⟩ := ix_some hj
  have g' := g b out hk h1 h2
  refine ⟨g'.1, fun H locs la hR hS hl => ?_⟩
  have hat := hR.2 a (by rw [hka]; exact Nat.le_of_ble_eq_true rfl)
  rw [hka] at hat
  subst hij
  exact W.aald (v := .ref b) (ty := .object "java/lang/Object") K.1 K.2.1 hat ((hK.1.2 5 _ rfl).1 len (fun j => va_rf (P a j))) rfl (fun q => by cases q) (by show ¬ (i < 0 ∨ (arrV _ _ _).slots.size ≤ _); rw [arrV_size]; exact hin) (by show (arrV _ _ _).slots[_]? = _; rw [arrV_read _ _ hlt]; show some (va_rf (P a i.toNatClampNeg)) = _; rw [h3]; rfl) rfl rfl hd (g'.2 H locs la hR hS hl)
/-- the receiver: an object's cell -/
theorem x_recv {H : Heap} {a ci : Nat} {C : String} {T : u_T} {N : Nat} {t : Nat × Nat × Nat} {fs : List Value} (hK : xK D cs z s) (hR : xRep D cs z sz kd (P, I) H) (hka : kd a = t) (he : cellE cs z t a (P a) (I a) = .inr (ci, fs)) (h90 : t.1 < 90) (hc : clX[ci]? = some (C, T, N)) : ∃ cell : Cell, H[a]? = some cell ∧ cell.vm.isStatics = false ∧ s.vm.findClass C = some cell.cls := by
  have hat := hR.2 a (by rw [hka]; exact h90)
  rw [hka, he] at hat
  have hP : va_P D clX [(a, .inr (ci, fs))] H := fun k q hk => by
    cases k with
    | zero => cases hk; exact hat
    | succ k => simp at hk
  exact va_recv hK.1 hP (ci := ci) (q0 := 0) hc rfl
theorem gx_cast (K : CallFix p m c cc nL s args lw_all own) (hK : xK D cs z s) (hsh : Shp z kd) {a ci index : Nat} {C nm : String} {T : u_T} {N : Nat} {t : Nat × Nat × Nat} {fs : List Value} (n : Nat) (hlink : Cond.classLink own index nm ∈ lw_all) (hcast : va_Nw (.castable C nm) s ∨ C = nm) (hka : kd a = t) (he : cellE cs z t a (P a) (I a) = .inr (ci, fs)) (h90 : t.1 < 90) (hc : clX[ci]? = some (C, T, N)) (hd : decode cc pc = .ok (.checkcast index, 3)) (hn : pc + 3 = n) (g : Gx p l e fr lo s m args below meth c nL c0 k0 D cs z sz kd n ls (.ref a :: st) (P, I) q o) : Gx p l e fr lo s m args below meth c nL c0 k0 D cs z sz kd pc ls (.ref a :: st) (P, I) q o := by
  subst hn
  intro out ho h1 h2
  have g' := g out ho h1 h2
  refine ⟨g'.1, fun H locs la hR hS hl => ?_⟩
  have hr := x_recv hK hR hka he h90 hc
  rcases hcast with hcast | rfl
  · exact va_castY K.1 K.2.1 K.2.2.2.1 (K.2.2.2.2 _ hlink) hcast hr hd (g'.2 H locs la hR hS hl)
  · exact va_castS K.1 K.2.1 K.2.2.2.1 (K.2.2.2.2 _ hlink) (hK.1.1 ci _ hc).2 hr hd (g'.2 H locs la hR hS hl)
/-- behind a run: the world that came back -/
theorem x_after {pc2 : Nat} {H : Heap} {locs : List Loc} {la : Array Slot} {st0 rest : List Value} {r : Option Value × (Ptr × Mem)} {R : Room} {ce sl : Nat} {Q : State → Prop} {a0 : Array Value} (hS : va_S (xA z) s.heap H locs) (hrun : va_Run p l e R s m args below meth c H locs ce sl 0 0 (F0 m pc la st0) rest (xPost D cs z sz kd r a0) (xA z)) (hpc : pc + 3 = pc2)
    (k : ∀ (H1 : Heap) (locs1 : List Loc), xRep D cs z sz kd r.2 H1 → va_S (xA z) s.heap H1 locs1 → W p l e R s m args below meth c H1 locs1 ce sl Q (F0 m pc2 la (r.1.toList ++ rest))) : W p l e R s m args below meth c H locs ce sl Q (F0 m pc la st0) := by
  subst hpc
  intro T0 hT X
  obtain ⟨v, st₀, t, T', L, h0, X', hL, e1, e2, ⟨⟨hv, hP1⟩, hF⟩, stp⟩ := hrun T0 hT X
  cases hv
  have hz : H.size ≤ t.heap.size := by rw [← h0]; exact hF.1
  have hS1 : va_S (xA z) s.heap T'.heap (locs ++ L) := by
    refine ⟨by rw [e1]; exact Nat.le_trans hS.1 hz, fun x hx hxA => ?_, fun z hzz => ?_⟩
    · rw [e1, hF.2 x (by rw [h0]; exact Nat.lt_of_lt_of_le hx hS.1) hxA, h0]
      exact hS.2.1 x hx hxA
    · rcases List.mem_append.mp hzz with h | h
      · exact hS.2.2 z h
      · exact hL z h
  obtain ⟨t2, a1, b1⟩ := k T'.heap (locs ++ L) (by rw [e1]; exact hP1) hS1 T' rfl X'
  exact ⟨t2, stp t2 a1, b1⟩
/-- a call whose named method stands in a superclass: abstract there (declares), or inherited -/
theorem gx_callU (K : CallFix p m c cc nL s args lw_all own) (hK : xK D cs z s) (hsh : Shp z kd) {x y : MethodName} {bytes : ByteArray} {maxL index a ci : Nat} {C : String} {T : u_T} {N : Nat} {t : Nat × Nat × Nat} {fs : List Value} {ret : Option FieldType} {fr' lo' : Nat} {vals stk : List Value} {O' : Type} {fin' : O' → Option Value × (Ptr × Mem)} {o' : Option O'} {kk : O' → Option O} (n : Nat) (hC : CtX cs z kd y bytes maxL ret fr' lo' (.ref a :: vals) (P, I) fin' o') (hw : GoodIn lw_all (va_wsU own index C x.cls x y (ws_ y bytes maxL ret))) (hdec : va_Nw (.declares x) s)
    (hdd : x.cls ≠ "java/lang/invoke/MethodHandle" ∧ x.cls ≠ "java/lang/invoke/VarHandle" ∧ (parseMethodDescriptor x.desc).map (fun d => d.parameters.length) = some vals.length) (hka : kd a = t) (he : cellE cs z t a (P a) (I a) = .inr (ci, fs)) (h90 : t.1 < 90) (hc : clX[ci]? = some (C, T, N)) (hroom : fr' + 1 ≤ fr ∧ 8 + (maxL + 11) + lo' ≤ lo) (hstk : stk = vals.reverse ++ .ref a :: st) (hcat : (st.map fun v => v.category).sum ≤ 8)
    (hd : decode cc pc = .ok (.invokevirtual index, 3)) (hn : pc + 3 = n) (g : ∀ r, o' = some r → Gx p l e fr lo s m args below meth c nL c0 k0 D cs z sz kd n ls ((fin' r).1.toList ++ st) (fin' r).2 q (kk r)) : Gx p l e fr lo s m args below meth c nL c0 k0 D cs z sz kd pc ls stk (P, I) q (o'.bind kk) := by
  subst hstk
  intro out ho h1 h2
  obtain ⟨r, hr, hk⟩ := Option.bind_eq_some_iff.mp ho
  have g' := g r hr out hk h1 h2
  refine ⟨g'.1, fun H locs la hR hS hl => ?_⟩
  have hrc := x_recv hK hR hka he h90 hc
  refine x_after hS (va_runU (As := vals) (rest := st) (owner := x.cls) K (hC l D sz hsh r hr) (va_cwA vals.length K.2.2.2.2 hw rfl rfl rfl hdec hdd hroom) ⟨fun a U g mk q => by obtain ⟨q0, q1, q2⟩ := q; exact ⟨q0, q1, xK.same rfl rfl q2⟩, hrc, fun U hU hW => ⟨rfl, by rw [hU]; exact hR, xK.warm hW hS hU hK⟩⟩ rfl rfl hl.1 rfl (lv_room hcat) hd ⟨Nat.sub_le_sub_right g'.1.1 _, Nat.sub_le_sub_right g'.1.2 _⟩) hn (fun H1 locs1 hR1 hS1 => g'.2 H1 locs1 la hR1 hS1 hl)
theorem gx_callF (K : CallFix p m c cc nL s args lw_all own) (hK : xK D cs z s) (hsh : Shp z kd) {x y : MethodName} {bytes : ByteArray} {maxL index count a ci : Nat} {C : String} {T : u_T} {N : Nat} {t : Nat × Nat × Nat} {fs : List Value} {ret : Option FieldType} {fr' lo' : Nat} {vals stk : List Value} {O' : Type} {fin' : O' → Option Value × (Ptr × Mem)} {o' : Option O'} {kk : O' → Option O} (n : Nat) (hC : CtX cs z kd y bytes maxL ret fr' lo' (.ref a :: vals) (P, I) fin' o') (hw : GoodIn lw_all (va_wsF own index C x y (ws_ y bytes maxL ret))) (hF : va_Fw C x y s)
    (hdd : x.cls ≠ "java/lang/invoke/MethodHandle" ∧ x.cls ≠ "java/lang/invoke/VarHandle" ∧ (parseMethodDescriptor x.desc).map (fun d => d.parameters.length) = some vals.length) (hka : kd a = t) (he : cellE cs z t a (P a) (I a) = .inr (ci, fs)) (h90 : t.1 < 90) (hc : clX[ci]? = some (C, T, N)) (hroom : fr' + 1 ≤ fr ∧ 8 + (maxL + 11) + lo' ≤ lo) (hstk : stk = vals.reverse ++ .ref a :: st) (hcat : (st.map fun v => v.category).sum ≤ 8)
    (hd : decode cc pc = .ok (.invokeinterface index count, 5)) (hn : pc + 5 = n) (g : ∀ r, o' = some r → Gx p l e fr lo s m args below meth c nL c0 k0 D cs z sz kd n ls ((fin' r).1.toList ++ st) (fin' r).2 q (kk r)) : Gx p l e fr lo s m args below meth c nL c0 k0 D cs z sz kd pc ls stk (P, I) q (o'.bind kk) := by
  subst hn
  subst hstk
  intro out ho h1 h2
  obtain ⟨r, hr, hk⟩ := Option.bind_eq_some_iff.mp ho
  have g' := g r hr out hk h1 h2
  refine ⟨g'.1, fun H locs la hR hS hl => ?_⟩
  have hrc := x_recv hK hR hka he h90 hc
  intro T0 hT X
  obtain ⟨v, st₀, t, T', L, h0, X', hL, e1, e2, ⟨⟨hv, hP1⟩, hF⟩, stp⟩ := va_runF (As := vals) (rest := st) (hK.1.1 ci _ hc).2 K (hC l D sz hsh r hr) (va_cwF vals.length K.2.2.2.2 hw rfl rfl rfl hF hdd hroom) ⟨fun a U g mk q => by obtain ⟨q0, q1, q2⟩ := q; exact ⟨q0, q1, xK.same rfl rfl q2⟩, hrc, fun U hU hW => ⟨rfl, by rw [hU]; exact hR, xK.warm hW hS hU hK⟩⟩ rfl rfl hl.1 rfl (lv_room hcat) hd ⟨Nat.sub_le_sub_right g'.1.1 _, Nat.sub_le_sub_right g'.1.2 _⟩ T0 hT X
  cases hv
  have hz : H.size ≤ t.heap.size := by rw [← h0]; exact hF.1
  have hS1 : va_S (xA z) s.heap T'.heap (locs ++ L) := by
    refine ⟨by rw [e1]; exact Nat.le_trans hS.1 hz, fun x hx hxA => ?_, fun z hzz => ?_⟩
    · rw [e1, hF.2 x (by rw [h0]; exact Nat.lt_of_lt_of_le hx hS.1) hxA, h0]
      exact hS.2.1 x hx hxA
    · rcases List.mem_append.mp hzz with h | h
      · exact hS.2.2 z h
      · exact hL z h
  obtain ⟨t2, a1, b1⟩ := g'.2 T'.heap (locs ++ L) la (by rw [e1]; exact hP1) hS1 hl T' rfl X'
  exact ⟨t2, stp t2 a1, b1⟩


theorem gx_ck {kt : Nat × Nat × Nat} {b : Nat} {kk : Nat → Option O} (g : kd b = kt → Gx p l e fr lo s m args below meth c nL c0 k0 D cs z sz kd pc ls st σ q (kk b)) : Gx p l e fr lo s m args below meth c nL c0 k0 D cs z sz kd pc ls st σ q ((pk kd (some b) kt).bind kk) := by
  intro out ho
  obtain ⟨r, hr, hk⟩ := Option.bind_eq_some_iff.mp ho
  obtain ⟨h1, h2⟩ := pk_some hr
  cases h1
  exact g h2 out hk
theorem gx_ckE {b : Nat} {kk : Nat → Option O} (g : isEn kd b → Gx p l e fr lo s m args below meth c nL c0 k0 D cs z sz kd pc ls st σ q (kk b)) : Gx p l e fr lo s m args below meth c nL c0 k0 D cs z sz kd pc ls st σ q ((ckE kd b).bind kk) := by
  intro out ho
  obtain ⟨r, hr, hk⟩ := Option.bind_eq_some_iff.mp ho
  unfold ckE at hr
  split at hr
  · next h => cases hr; exact g h out hk
  · cases hr
theorem wd_TermOf : "GingerRents$Term" ≠ "java/lang/invoke/MethodHandle" ∧ "GingerRents$Term" ≠ "java/lang/invoke/VarHandle" ∧ (parseMethodDescriptor "(LGingerRents$Asker;)I").map (fun d => d.parameters.length) = some 1 := by decide +kernel
/-- a term's contracts, whichever class it is of -/
def CtT (cs : Cs) (z : Nat) (kd : Kd) (fr lo : Nat) (f : Ptr → Mem → Nat → Nat → Option Int32) : Prop := ∀ (P : Ptr) (I : Mem) (t b : Nat), kd b = (1, 0, 0) → (kd t = (7, 0, 0) → CtX cs z kd yX8_of cX8_of 2 (some .int) fr lo [.ref t, .ref b] (P, I) (fun r => (some (.int r), (P, I))) (f P I t b)) ∧ (kd t = (8, 0, 0) → CtX cs z kd yX9_of cX9_of 2 (some .int) fr lo [.ref t, .ref b] (P, I) (fun r => (some (.int r), (P, I))) (f P I t b)) ∧ (kd t = (9, 0, 0) → CtX cs z kd yX10_of cX10_of 4 (some .int) fr lo [.ref t, .ref b] (P, I) (fun r => (some (.int r), (P, I))) (f P I t b)) ∧ (kd t = (10, 0, 0) → CtX cs z kd yX11_of cX11_of 2 (some .int) fr lo [.ref t, .ref b] (P, I) (fun r => (some (.int r), (P, I))) (f P I t b))
def isTm (kd : Kd) (t : Nat) : Prop := kd t = (7, 0, 0) ∨ kd t = (8, 0, 0) ∨ kd t = (9, 0, 0) ∨ kd t = (10, 0, 0)
theorem gx_callT (K : CallFix p m c cc nL s args lw_all own) (hK : xK D cs z s) (hsh : Shp z kd) {f : Ptr → Mem → Nat → Nat → Option Int32} {fr' lo' index t b : Nat} {kk : Int32 → Option O} (n : Nat) (HT : CtT cs z kd fr' lo' f) (hf : ∀ P I t b r, f P I t b = some r → isTm kd t) (hkb : kd b = (1, 0, 0)) (hlink : Cond.methodLink own index ⟨"GingerRents$Term", "of", "(LGingerRents$Asker;)I"⟩ ∈ lw_all) (hroom : fr' + 1 ≤ fr ∧ 23 + lo' ≤ lo) (hcat : (st.map fun v => v.category).sum ≤ 8)
    (hd : decode cc pc = .ok (.invokevirtual index, 3)) (hn : pc + 3 = n) (g : ∀ r, f P I t b = some r → Gx p l e fr lo s m args below meth c nL c0 k0 D cs z sz kd n ls (.int r :: st) (P, I) q (kk r)) : Gx p l e fr lo s m args below meth c nL c0 k0 D cs z sz kd pc ls (.ref b :: .ref t :: st) (P, I) q ((f P I t b).bind kk) := by
  intro out ho
  obtain ⟨r, hr, hk⟩ := Option.bind_eq_some_iff.mp ho
  rcases hf P I t b r hr with h | h | h | h
  · exact gx_callU K hK hsh (x := ⟨"GingerRents$Term", "of", "(LGingerRents$Asker;)I"⟩) (y := yX8_of) (vals := [.ref b]) n ((HT P I t b hkb).1 h) (lw_U hlink q1190 q1191 q1192 q171 q1193) (nd_q1189 hK.2) wd_TermOf h rfl (Nat.le_of_ble_eq_true rfl) rfl (by omega) rfl hcat hd hn (fun r hr => g r hr) out ho
  · exact gx_callU K hK hsh (x := ⟨"GingerRents$Term", "of", "(LGingerRents$Asker;)I"⟩) (y := yX9_of) (vals := [.ref b]) n ((HT P I t b hkb).2.1 h) (lw_U hlink q1190 q1214 q1198 q172 q1199) (nd_q1189 hK.2) wd_TermOf h rfl (Nat.le_of_ble_eq_true rfl) rfl (by omega) rfl hcat hd hn (fun r hr => g r hr) out ho
  · exact gx_callU K hK hsh (x := ⟨"GingerRents$Term", "of", "(LGingerRents$Asker;)I"⟩) (y := yX10_of) (vals := [.ref b]) n ((HT P I t b hkb).2.2.1 h) (lw_U hlink q1190 q1194 q1195 q173 q1196) (nd_q1189 hK.2) wd_TermOf h rfl (Nat.le_of_ble_eq_true rfl) rfl (by omega) rfl hcat hd hn (fun r hr => g r hr) out ho
  · exact gx_callU K hK hsh (x := ⟨"GingerRents$Term", "of", "(LGingerRents$Asker;)I"⟩) (y := yX11_of) (vals := [.ref b]) n ((HT P I t b hkb).2.2.2 h) (lw_U hlink q1190 q1215 q1211 q174 q1212) (nd_q1189 hK.2) wd_TermOf h rfl (Nat.le_of_ble_eq_true rfl) rfl (by omega) rfl hcat hd hn (fun r hr => g r hr) out ho
/-- an inherited method's call -/
theorem gx_callI (K : CallFix p m c cc nL s args lw_all own) (hK : xK D cs z s) (hsh : Shp z kd) {x y : MethodName} {owner : String} {bytes : ByteArray} {maxL index a ci : Nat} {C : String} {T : u_T} {N : Nat} {t : Nat × Nat × Nat} {fs : List Value} {ret : Option FieldType} {fr' lo' : Nat} {vals stk : List Value} {O' : Type} {fin' : O' → Option Value × (Ptr × Mem)} {o' : Option O'} {kk : O' → Option O} (n : Nat) (hC : CtX cs z kd y bytes maxL ret fr' lo' (.ref a :: vals) (P, I) fin' o') (hw : GoodIn lw_all (va_wsU own index C owner x y (ws_ y bytes maxL ret))) (hyx : y = ⟨owner, x.name, x.desc⟩)
    (hdd : owner ≠ "java/lang/invoke/MethodHandle" ∧ owner ≠ "java/lang/invoke/VarHandle" ∧ (parseMethodDescriptor x.desc).map (fun d => d.parameters.length) = some vals.length) (hka : kd a = t) (he : cellE cs z t a (P a) (I a) = .inr (ci, fs)) (h90 : t.1 < 90) (hc : clX[ci]? = some (C, T, N)) (hroom : fr' + 1 ≤ fr ∧ 8 + (maxL + 11) + lo' ≤ lo) (hstk : stk = vals.reverse ++ .ref a :: st) (hcat : (st.map fun v => v.category).sum ≤ 8)
    (hd : decode cc pc = .ok (.invokevirtual index, 3)) (hn : pc + 3 = n) (g : ∀ r, o' = some r → Gx p l e fr lo s m args below meth c nL c0 k0 D cs z sz kd n ls ((fin' r).1.toList ++ st) (fin' r).2 q (kk r)) : Gx p l e fr lo s m args below meth c nL c0 k0 D cs z sz kd pc ls stk (P, I) q (o'.bind kk) := by
  subst hstk
  intro out ho h1 h2
  obtain ⟨r, hr, hk⟩ := Option.bind_eq_some_iff.mp ho
  have g' := g r hr out hk h1 h2
  refine ⟨g'.1, fun H locs la hR hS hl => ?_⟩
  have hrc := x_recv hK hR hka he h90 hc
  refine x_after hS (va_runU (As := vals) (rest := st) (owner := owner) K (hC l D sz hsh r hr) (va_cwU vals.length K.2.2.2.2 hw rfl rfl rfl hyx hdd hroom) ⟨fun a U g mk q => by obtain ⟨q0, q1, q2⟩ := q; exact ⟨q0, q1, xK.same rfl rfl q2⟩, hrc, fun U hU hW => ⟨rfl, by rw [hU]; exact hR, xK.warm hW hS hU hK⟩⟩ rfl rfl hl.1 rfl (lv_room hcat) hd ⟨Nat.sub_le_sub_right g'.1.1 _, Nat.sub_le_sub_right g'.1.2 _⟩) hn (fun H1 locs1 hR1 hS1 => g'.2 H1 locs1 la hR1 hS1 hl)

theorem gx_castE (K : CallFix p m c cc nL s args lw_all own) (hK : xK D cs z s) (hsh : Shp z kd) {a index : Nat} (n : Nat) (hlink : Cond.classLink own index "GingerRents$Entry" ∈ lw_all) (hE : isEn kd a) (hd : decode cc pc = .ok (.checkcast index, 3)) (hn : pc + 3 = n) (g : Gx p l e fr lo s m args below meth c nL c0 k0 D cs z sz kd n ls (.ref a :: st) (P, I) q o) : Gx p l e fr lo s m args below meth c nL c0 k0 D cs z sz kd pc ls (.ref a :: st) (P, I) q o := by
  rcases hE with h | h | h | h | h | h
  · exact gx_cast K hK hsh n hlink (Or.inl (nc_q2255 hK.2)) h rfl (Nat.le_of_ble_eq_true rfl) rfl hd hn g
  · exact gx_cast K hK hsh n hlink (Or.inl (nc_q2253 hK.2)) h rfl (Nat.le_of_ble_eq_true rfl) rfl hd hn g
  · exact gx_cast K hK hsh n hlink (Or.inl (nc_q2254 hK.2)) h rfl (Nat.le_of_ble_eq_true rfl) rfl hd hn g
  · exact gx_cast K hK hsh n hlink (Or.inl (nc_q2252 hK.2)) h rfl (Nat.le_of_ble_eq_true rfl) rfl hd hn g
  · exact gx_cast K hK hsh n hlink (Or.inl (nc_q2257 hK.2)) h rfl (Nat.le_of_ble_eq_true rfl) rfl hd hn g
  · exact gx_cast K hK hsh n hlink (Or.inl (nc_q2256 hK.2)) h rfl (Nat.le_of_ble_eq_true rfl) rfl hd hn g

end GX
