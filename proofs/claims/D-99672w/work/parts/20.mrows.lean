/-! ===== GingerRentsModel: its cells as one memory: field, place ===== -/
-- 0: told I
-- 1: now [I length 115, at am + 1
-- 2: rows [I length 690, at am + 2
-- 3: undoable I
-- 4: waiting [I length 115, at am + 3
-- 5: isThought Z
-- 6: houses I
-- 7: almonds [I length 12, at am + 4
-- 8: teeth [I length 12, at am + 5
-- 9: book [I length 600, at am + 6
-- 10: tape [I length 400, at am + 7
-- 11: taped I
-- 12: spot I
-- 13: from I
-- 14: token I
-- 15: value I
-- 16: words [I length 141, at am + 8
-- 17: lineMany [I length 2, at am + 9
-- 18: lineWord [I length 48, at am + 10
-- 19: lineFrom [I length 48, at am + 11
-- 20: lineWhen [I length 48, at am + 12
-- 21: lineTo [I length 48, at am + 13
-- 22: op [I length 1200, at am + 14
-- 23: arg [I length 1200, at am + 15
-- 24: which I
-- 25: codes I
-- 26: open I
-- 27: pending [I length 40, at am + 16
-- 28: pendings I
-- 29: readFault I
-- 30: readPlace I
-- 31: faultKind I
-- 32: faultPlace I
-- 33: skyMany I
-- 34: skies [I length 96, at am + 17
-- 35: deedMany I
-- 36: deeds [I length 160, at am + 18
-- 37: nextMany I
-- 38: nextTo [I length 24, at am + 19
-- 39: asked [I length 12, at am + 20
-- 40: stack [I length 420, at am + 21
-- 41: costTo [I length 12, at am + 22
-- 42: pieceMany I
-- 43: pieces [I length 9, at am + 23
-- 44: shareFrom [I length 100, at am + 24
-- 45: doughMany I
-- 46: doughs [I length 8, at am + 25
-- 47: panned [I length 256, at am + 26
-- 48: panRoom [I length 8, at am + 27
-- 49: markMany I
-- 50: marks [I length 5, at am + 28
-- 51: biteMany I
-- 52: biteTeeth [I length 8, at am + 29
-- 53: biteWide [I length 8, at am + 30
-- 54: crumbMany I
-- 55: ways [I length 16, at am + 31
-- 56: stood [I length 1681, at am + 32
-- 57: loafMany I
-- 58: loafBakes [I length 6, at am + 33
-- 59: loafCools [I length 6, at am + 34
-- 60: order [I length 6, at am + 35
-- 61: bestOrder [I length 6, at am + 36
-- 62: heirMany I
-- 63: hasOfUp [I length 12, at am + 37
-- 64: paned [I length 21, at am + 38
-- 65: panedThree [I length 21, at am + 39
-- 66: memberMany I
-- 67: memberWants [I length 8, at am + 40
-- 68: memberWeight [I length 8, at am + 41
-- 69: doesWin [I length 16807, at am + 42
-- 70: slab [I length 5, at am + 43
-- 71: isTaking Z
-- 72: hasImage Z
-- 73: keptAt I
-- 74: images [I length 2400, at am + 44
abbrev Mem : Type := Nat → Nat → Int32
def up2 (μ : Mem) (k i : Nat) (x : Int32) : Mem := fun a => if a = k then upd (μ a) i x else μ a
def rd (μ : Mem) (k n : Nat) (i : Int32) : Option Int32 := if i < 0 ∨ n ≤ i.toNatClampNeg then none else some (μ k i.toNatClampNeg)
def wr (μ : Mem) (k n : Nat) (i x : Int32) : Option Mem := if i < 0 ∨ n ≤ i.toNatClampNeg then none else some (up2 μ k i.toNatClampNeg x)
def mF (am : Nat) (μ : Mem) : List Value := [.int (μ 0 0), .ref (am + 1), .ref (am + 2), .int (μ 3 0), .ref (am + 3), .int (μ 5 0), .int (μ 6 0), .ref (am + 4), .ref (am + 5), .ref (am + 6), .ref (am + 7), .int (μ 11 0), .int (μ 12 0), .int (μ 13 0), .int (μ 14 0), .int (μ 15 0), .ref (am + 8), .ref (am + 9), .ref (am + 10), .ref (am + 11), .ref (am + 12), .ref (am + 13), .ref (am + 14), .ref (am + 15), .int (μ 24 0), .int (μ 25 0), .int (μ 26 0), .ref (am + 16), .int (μ 28 0), .int (μ 29 0), .int (μ 30 0), .int (μ 31 0), .int (μ 32 0), .int (μ 33 0), .ref (am + 17), .int (μ 35 0), .ref (am + 18), .int (μ 37 0), .ref (am + 19), .ref (am + 20), .ref (am + 21), .ref (am + 22), .int (μ 42 0), .ref (am + 23), .ref (am + 24), .int (μ 45 0), .ref (am + 25), .ref (am + 26), .ref (am + 27), .int (μ 49 0), .ref (am + 28), .int (μ 51 0), .ref (am + 29), .ref (am + 30), .int (μ 54 0), .ref (am + 31), .ref (am + 32), .int (μ 57 0), .ref (am + 33), .ref (am + 34), .ref (am + 35), .ref (am + 36), .int (μ 62 0), .ref (am + 37), .ref (am + 38), .ref (am + 39), .int (μ 66 0), .ref (am + 40), .ref (am + 41), .ref (am + 42), .ref (am + 43), .int (μ 71 0), .int (μ 72 0), .int (μ 73 0), .ref (am + 44)]
def wm (ci : Nat) (cA : ClassId) (am : Nat) (μ : Mem) : va_W := [(am, .inr (ci, mF am μ)), (am + 1, .inl (cA, 115, .inl (μ 1))), (am + 2, .inl (cA, 690, .inl (μ 2))), (am + 3, .inl (cA, 115, .inl (μ 4))), (am + 4, .inl (cA, 12, .inl (μ 7))), (am + 5, .inl (cA, 12, .inl (μ 8))), (am + 6, .inl (cA, 600, .inl (μ 9))), (am + 7, .inl (cA, 400, .inl (μ 10))), (am + 8, .inl (cA, 141, .inl (μ 16))), (am + 9, .inl (cA, 2, .inl (μ 17))), (am + 10, .inl (cA, 48, .inl (μ 18))), (am + 11, .inl (cA, 48, .inl (μ 19))), (am + 12, .inl (cA, 48, .inl (μ 20))), (am + 13, .inl (cA, 48, .inl (μ 21))), (am + 14, .inl (cA, 1200, .inl (μ 22))), (am + 15, .inl (cA, 1200, .inl (μ 23))), (am + 16, .inl (cA, 40, .inl (μ 27))), (am + 17, .inl (cA, 96, .inl (μ 34))), (am + 18, .inl (cA, 160, .inl (μ 36))), (am + 19, .inl (cA, 24, .inl (μ 38))), (am + 20, .inl (cA, 12, .inl (μ 39))), (am + 21, .inl (cA, 420, .inl (μ 40))), (am + 22, .inl (cA, 12, .inl (μ 41))), (am + 23, .inl (cA, 9, .inl (μ 43))), (am + 24, .inl (cA, 100, .inl (μ 44))), (am + 25, .inl (cA, 8, .inl (μ 46))), (am + 26, .inl (cA, 256, .inl (μ 47))), (am + 27, .inl (cA, 8, .inl (μ 48))), (am + 28, .inl (cA, 5, .inl (μ 50))), (am + 29, .inl (cA, 8, .inl (μ 52))), (am + 30, .inl (cA, 8, .inl (μ 53))), (am + 31, .inl (cA, 16, .inl (μ 55))), (am + 32, .inl (cA, 1681, .inl (μ 56))), (am + 33, .inl (cA, 6, .inl (μ 58))), (am + 34, .inl (cA, 6, .inl (μ 59))), (am + 35, .inl (cA, 6, .inl (μ 60))), (am + 36, .inl (cA, 6, .inl (μ 61))), (am + 37, .inl (cA, 12, .inl (μ 63))), (am + 38, .inl (cA, 21, .inl (μ 64))), (am + 39, .inl (cA, 21, .inl (μ 65))), (am + 40, .inl (cA, 8, .inl (μ 67))), (am + 41, .inl (cA, 8, .inl (μ 68))), (am + 42, .inl (cA, 16807, .inl (μ 69))), (am + 43, .inl (cA, 5, .inl (μ 70))), (am + 44, .inl (cA, 2400, .inl (μ 74)))]
def mA (am : Nat) : Nat → Prop := fun q => am ≤ q ∧ q < am + 45
theorem wm_addr (ci : Nat) (cA : ClassId) (am : Nat) (μ : Mem) (k : Nat) (q : Nat × va_E) (h : (wm ci cA am μ)[k]? = some q) : q.1 = am + k ∧ k < 45 := by
  have hk : k < 45 := (List.getElem?_eq_some_iff.mp h).1
  refine ⟨?_, hk⟩
  have key : ∀ k, k < 45 → ((wm ci cA am μ)[k]?).map (·.1) = some (am + k) := by
    intro k hk
    have : k = 0 ∨ k = 1 ∨ k = 2 ∨ k = 3 ∨ k = 4 ∨ k = 5 ∨ k = 6 ∨ k = 7 ∨ k = 8 ∨ k = 9 ∨ k = 10 ∨ k = 11 ∨ k = 12 ∨ k = 13 ∨ k = 14 ∨ k = 15 ∨ k = 16 ∨ k = 17 ∨ k = 18 ∨ k = 19 ∨ k = 20 ∨ k = 21 ∨ k = 22 ∨ k = 23 ∨ k = 24 ∨ k = 25 ∨ k = 26 ∨ k = 27 ∨ k = 28 ∨ k = 29 ∨ k = 30 ∨ k = 31 ∨ k = 32 ∨ k = 33 ∨ k = 34 ∨ k = 35 ∨ k = 36 ∨ k = 37 ∨ k = 38 ∨ k = 39 ∨ k = 40 ∨ k = 41 ∨ k = 42 ∨ k = 43 ∨ k = 44 := by omega
    rcases this with rfl | rfl | rfl | rfl | rfl | rfl | rfl | rfl | rfl | rfl | rfl | rfl | rfl | rfl | rfl | rfl | rfl | rfl | rfl | rfl | rfl | rfl | rfl | rfl | rfl | rfl | rfl | rfl | rfl | rfl | rfl | rfl | rfl | rfl | rfl | rfl | rfl | rfl | rfl | rfl | rfl | rfl | rfl | rfl | rfl <;> rfl
  have := key k hk
  rw [h] at this
  exact Option.some.inj this
theorem wm_D (ci : Nat) (cA : ClassId) (am : Nat) (μ : Mem) : va_D (mA am) (wm ci cA am μ) := by
  refine ⟨fun i j x y hi hj hxy => ?_, fun k q hk => ?_⟩
  · have h1 := (wm_addr ci cA am μ i x hi).1
    have h2 := (wm_addr ci cA am μ j y hj).1
    omega
  · have h1 := wm_addr ci cA am μ k q hk
    unfold mA
    omega
def mRep (D : va_G) (cl : List vw_C) (ci : Nat) (cA : ClassId) (am : Nat) (μ : Mem) (H : Heap) : Prop := va_P D cl (wm ci cA am μ) H
def mPre (D : va_G) (cl : List vw_C) (ci : Nat) (cA : ClassId) (am : Nat) (μ : Mem) (U : State) : Prop := mRep D cl ci cA am μ U.heap ∧ va_K D cl [(cA, .int)] U
def mPost (D : va_G) (cl : List vw_C) (ci : Nat) (cA : ClassId) (am : Nat) (r : Option Value × Mem) : Array Value → State → Outcome → State → Prop := fun _ st oc t => (oc = .returned r.1 ∧ mRep D cl ci cA am r.2 t.heap ∧ va_K D cl [(cA, .int)] t) ∧ va_F (mA am) st t
def mq (D : va_G) (cl : List vw_C) (ci : Nat) (cA : ClassId) (am : Nat) (s : State) (args : Array Value) (below : List Frame) {O : Type} (fin : O → Option Value × Mem) : O → En := fun out => ((0, 0), MQ below (mPost D cl ci cA am (fin out)) args s 0 0 (mA am))
/-- a method of the model's contract: if the pure computation o answers, the method ends so -/
def CtM (y : MethodName) (cc : ByteArray) (nL : Nat) (ret : Option FieldType) (fr lo : Nat) (vals : List Value) (μ : Mem) {O : Type} (fin : O → Option Value × Mem) (o : Option O) : Prop :=
  ∀ (l : Launch) (D : va_G) (cl : List vw_C) (ci : Nat) (cA : ClassId) (am : Nat), cl[ci]? = some (RX4, TX4, 75) → ∀ out, o = some out →
    Met l y (ws_ y cc nL ret) ({ frames := fr, cells := 0, slots := 0, locals := lo }) (va_Pc (.ref am :: vals) (mPre D cl ci cA am μ)) (mPost D cl ci cA am (fin out)) 0 0 (mA am)
abbrev Gm (p : Program) (l : Launch) (e : Env) (fr lo : Nat) (s : State) (m : MethodId) (args : Array Value) (below : List Frame) (meth : Method) (c : Code) (nL : Nat) (D : va_G) (cl : List vw_C) (ci : Nat) (cA : ClassId) (am : Nat) {O : Type} (pc : Nat) (ls : List (Nat × Value)) (st : List Value) (μ : Mem) (q : O → En) (o : Option O) : Prop :=
  G p l e fr lo s m args below meth c nL (0, 0) (mRep D cl ci cA am) (fun _ => (0, 0)) (mA am) pc ls st μ q o
theorem CtM.of {y : MethodName} {cc : ByteArray} {nL : Nat} {ret : Option FieldType} {fr lo : Nat} {vals : List Value} {μ : Mem} {O : Type} {fin : O → Option Value × Mem} {o : Option O}
    (hy : plainName y.cls = true) (hyc : y.cls = RX4) (hlen : ∀ am : Nat, (lg_sl (.ref am :: vals)).length ≤ nL)
    (h : ∀ (l : Launch) (D : va_G) (cl : List vw_C) (ci : Nat) (cA : ClassId) (am : Nat) (p : Program) (e : Env) (s : State) (m : MethodId) (args : Array Value) (below : List Frame) (meth : Method) (c : Code), cl[ci]? = some (RX4, TX4, 75) → CallFix p m c cc nL s args lw_all RX4 → meth.sig.returnType = ret → meth.locks = false → va_K D cl [(cA, .int)] s →
      Gm p l e fr lo s m args below meth c nL D cl ci cA am 0 (lv_args 0 (.ref am :: vals)) [] μ (mq D cl ci cA am s args below fin) o) : CtM y cc nL ret fr lo vals μ fin o := by
  intro l D cl ci cA am hcl out ho
  refine Met.ofW (cc := cc) (maxL := nL) (ret := ret) hy rfl ?_
  intro p e s m args below meth c s₁ B hml hv
  obtain ⟨rfl, hP, hK⟩ := hv
  have hts := atoms_spec (ws := ws_ y cc nL ret) B.pre
  have hts : ∀ w ∈ lw_all, w.before _ s = true := fun w h => hts w (List.mem_cons_of_mem _ h)
  have hown : s.vm.findClass RX4 = some m.cls := by rw [← hyc]; exact findClass_of_methodNamed B.named
  have hl := lv_entry (.ref am :: vals) (n := nL) (hlen am)
  rw [lg_entry_eq]
  exact (h l D cl ci cA am p e s m _ below meth c hcl ⟨B.exec, B.bytes, hml, hown, hts⟩ B.returns B.notSynchronized hK out ho (Nat.le_refl _) (Nat.le_refl _)).2 s.heap [] _ hP va_S.rf hl
section GM
variable {p : Program} {l : Launch} {e : Env} {fr lo : Nat} {s : State} {m : MethodId} {args : Array Value} {below : List Frame} {meth : Method} {c : Code} {nL : Nat} {D : va_G} {cl : List vw_C} {ci : Nat} {cA : ClassId} {am : Nat} {O : Type} {pc : Nat} {ls : List (Nat × Value)} {st : List Value} {μ : Mem} {q : O → En} {o : Option O} {cc : ByteArray}
theorem gm_get (K : CallFix p m c cc nL s args lw_all RX4) (hK : va_K D cl [(cA, .int)] s) (hcl : cl[ci]? = some (RX4, TX4, 75)) (k : Nat) {index : Nat} {v : Value} (n : Nat) (hk : k < 75) (hlink : Cond.fieldLink RX4 index (TX4 k).1 (TX4 k).2.1 (TX4 k).2.2.1 ∈ lw_all) (hv : (mF am μ)[k]? = some v) (hd : decode cc pc = .ok (.getfield index, 3)) (hn : pc + 3 = n) (g : Gm p l e fr lo s m args below meth c nL D cl ci cA am n ls (v :: st) μ q o) : Gm p l e fr lo s m args below meth c nL D cl ci cA am pc ls (.ref am :: st) μ q o := by
  subst hn
  intro out ho h1 h2
  have g' := g out ho h1 h2
  exact ⟨g'.1, fun H locs la hR hS hl => va_get (D := D) (cl := cl) (ci := ci) (C := RX4) (T := TX4) (N := 75) K.1 K.2.1 K.2.2.2.2 in_X4 K.2.2.2.1 hK hR 0 rfl hcl k hk (K.2.2.2.2 _ hlink) (fun _ h9 => h9) hv hd (g'.2 H locs la hR hS hl)⟩
theorem gm_put (K : CallFix p m c cc nL s args lw_all RX4) (hK : va_K D cl [(cA, .int)] s) (hcl : cl[ci]? = some (RX4, TX4, 75)) (k : Nat) {index : Nat} {ty : FieldType} {x : Int32} {kk : Mem → Option O} (n : Nat) (hk : k < 75) (hlink : Cond.fieldLink RX4 index (TX4 k).1 (TX4 k).2.1 (TX4 k).2.2.1 ∈ lw_all) (hfin : (TX4 k).2.2.2 = false) (hty : parseFieldDescriptor (TX4 k).2.2.1 = some ty) (hnar : narrow ty (.int x) = .int x) (hfit : fits ty (.int x) = true) (hset : (wm ci cA am μ).set 0 (am, .inr (ci, (mF am μ).set k (.int x))) = wm ci cA am (up2 μ k 0 x)) (hd : decode cc pc = .ok (.putfield index, 3)) (hn : pc + 3 = n) (g : ∀ μ1, μ1 = up2 μ k 0 x → Gm p l e fr lo s m args below meth c nL D cl ci cA am n ls st μ1 q (kk μ1)) : Gm p l e fr lo s m args below meth c nL D cl ci cA am pc ls (.int x :: .ref am :: st) μ q (nm (up2 μ k 0 x) kk) := by
  subst hn
  intro out ho h1 h2
  have g' := g _ rfl out ho h1 h2
  refine ⟨g'.1, fun H locs la hR hS hl => ?_⟩
  refine va_put (D := D) (cl := cl) (ci := ci) (C := RX4) (T := TX4) (N := 75) (ty := ty) K.1 K.2.1 K.2.2.2.2 in_X4 tyX4 tyX4_ok nmX4 K.2.2.2.1 hK hR (wm_D ci cA am μ) hS 0 rfl hcl k hk (K.2.2.2.2 _ hlink) (fun _ h9 => h9) hfin hty hnar hfit hk hd (fun H1 locs1 hP1 _ hS1 => ?_)
  exact g'.2 H1 locs1 la (by unfold mRep; rw [← hset]; exact hP1) hS1 hl
theorem gm_ald (K : CallFix p m c cc nL s args lw_all RX4) (hK : va_K D cl [(cA, .int)] s) (hcl : cl[ci]? = some (RX4, TX4, 75)) (k off len : Nat) {i : Int32} {kk : Int32 → Option O} (n : Nat) (he : (wm ci cA am μ)[off]? = some (am + off, .inl (cA, len, .inl (μ k)))) (hd : decode cc pc = .ok (.iaload, 1)) (hn : pc + 1 = n) (g : ∀ v, rd μ k len i = some v → Gm p l e fr lo s m args below meth c nL D cl ci cA am n ls (.int v :: st) μ q (kk v)) : Gm p l e fr lo s m args below meth c nL D cl ci cA am pc ls (.int i :: .ref (am + off) :: st) μ q ((rd μ k len i).bind kk) := by
  subst hn
  intro out ho h1 h2
  obtain ⟨v, hv, hk⟩ := Option.bind_eq_some_iff.mp ho
  have g' := g v hv out hk h1 h2
  refine ⟨g'.1, fun H locs la hR hS hl => ?_⟩
  unfold rd at hv
  split at hv
  · cases hv
  · next hin =>
    cases hv
    exact va_iald K.1 K.2.1 hK hR off 0 he rfl hin hd (g'.2 H locs la hR hS hl)
theorem gm_ast (K : CallFix p m c cc nL s args lw_all RX4) (hK : va_K D cl [(cA, .int)] s) (hcl : cl[ci]? = some (RX4, TX4, 75)) (k off len : Nat) {i x : Int32} {kk : Mem → Option O} (n : Nat) (he : (wm ci cA am μ)[off]? = some (am + off, .inl (cA, len, .inl (μ k)))) (hset : ∀ j : Nat, (wm ci cA am μ).set off (am + off, .inl (cA, len, .inl (upd (μ k) j x))) = wm ci cA am (up2 μ k j x)) (hd : decode cc pc = .ok (.iastore, 1)) (hn : pc + 1 = n) (g : ∀ μ1, wr μ k len i x = some μ1 → Gm p l e fr lo s m args below meth c nL D cl ci cA am n ls st μ1 q (kk μ1)) : Gm p l e fr lo s m args below meth c nL D cl ci cA am pc ls (.int x :: .int i :: .ref (am + off) :: st) μ q ((wr μ k len i x).bind kk) := by
  subst hn
  intro out ho h1 h2
  obtain ⟨v, hv, hk⟩ := Option.bind_eq_some_iff.mp ho
  have g' := g v hv out hk h1 h2
  refine ⟨g'.1, fun H locs la hR hS hl => ?_⟩
  unfold wr at hv
  split at hv
  · cases hv
  · next hin =>
    cases hv
    refine va_iast K.1 K.2.1 hK hR (wm_D ci cA am μ) hS off 0 he rfl hin hd (fun H1 locs1 hP1 _ hS1 => ?_)
    exact g'.2 H1 locs1 la (by unfold mRep; rw [← hset]; exact hP1) hS1 hl
theorem gm_iret (K : CallFix p m c cc nL s args lw_all RX4) (hK : va_K D cl [(cA, .int)] s) (hcl : cl[ci]? = some (RX4, TX4, 75)) (hr : meth.sig.returnType = some .int) (hlk : meth.locks = false) {v : Int32} {r : O} {fin : O → Option Value × Mem} (hd : decode cc pc = .ok (.ireturn, 1)) (hfin : fin r = (some (.int v), μ)) : Gm p l e fr lo s m args below meth c nL D cl ci cA am pc ls [.int v] μ (mq D cl ci cA am s args below fin) (some r) := by
  intro out ho h1 h2
  cases ho
  refine ⟨⟨Nat.le_refl _, Nat.le_refl _⟩, fun H locs la hR hS hl => ?_⟩
  exact W.iret K.1 K.2.1 hr (fun t ht hW => ⟨⟨by rw [hfin], by rw [hfin, ht]; exact hR, va_K.moved hW.alike hK⟩, hS.F ht⟩) hS.2.2 hd hlk
theorem gm_zret (K : CallFix p m c cc nL s args lw_all RX4) (hK : va_K D cl [(cA, .int)] s) (hcl : cl[ci]? = some (RX4, TX4, 75)) (hr : meth.sig.returnType = some .boolean) (hlk : meth.locks = false) {v : Int32} {b : Bool} {r : O} {fin : O → Option Value × Mem} (hd : decode cc pc = .ok (.ireturn, 1)) (hv : v = bI b) (hfin : fin r = (some (.int (bI b)), μ)) : Gm p l e fr lo s m args below meth c nL D cl ci cA am pc ls [.int v] μ (mq D cl ci cA am s args below fin) (some r) := by
  intro out ho h1 h2
  cases ho
  subst hv
  refine ⟨⟨Nat.le_refl _, Nat.le_refl _⟩, fun H locs la hR hS hl => ?_⟩
  exact W.zret K.1 K.2.1 hr (by cases b <;> rfl) (fun t ht hW => ⟨⟨by rw [hfin], by rw [hfin, ht]; exact hR, va_K.moved hW.alike hK⟩, hS.F ht⟩) hS.2.2 hd hlk
theorem gm_vret (K : CallFix p m c cc nL s args lw_all RX4) (hK : va_K D cl [(cA, .int)] s) (hcl : cl[ci]? = some (RX4, TX4, 75)) (hr : meth.sig.returnType = none) (hlk : meth.locks = false) {r : O} {fin : O → Option Value × Mem} (hd : decode cc pc = .ok (.return_, 1)) (hfin : fin r = (none, μ)) : Gm p l e fr lo s m args below meth c nL D cl ci cA am pc ls [] μ (mq D cl ci cA am s args below fin) (some r) := by
  intro out ho h1 h2
  cases ho
  refine ⟨⟨Nat.le_refl _, Nat.le_refl _⟩, fun H locs la hR hS hl => ?_⟩
  exact W.vret K.1 K.2.1 hr (fun t ht hW => ⟨⟨by rw [hfin], by rw [hfin, ht]; exact hR, va_K.moved hW.alike hK⟩, hS.F ht⟩) hS.2.2 hd hlk
theorem gm_call (K : CallFix p m c cc nL s args lw_all RX4) (hK : va_K D cl [(cA, .int)] s) (hcl : cl[ci]? = some (RX4, TX4, 75)) {y : MethodName} {bytes : ByteArray} {maxL index : Nat} {ret : Option FieldType} {fr' lo' : Nat} {vals stk : List Value} {O' : Type} {fin' : O' → Option Value × Mem} {o' : Option O'} {kk : O' → Option O} (n : Nat) (hC : CtM y bytes maxL ret fr' lo' vals μ fin' o') (hw : GoodIn lw_all (wsV RX4 index RX4 y (ws_ y bytes maxL ret)))
    (hdd : y.cls = RX4 ∧ y.cls ≠ "java/lang/invoke/MethodHandle" ∧ y.cls ≠ "java/lang/invoke/VarHandle" ∧ (parseMethodDescriptor y.desc).map (fun d => d.parameters.length) = some vals.length) (hroom : fr' + 1 ≤ fr ∧ 8 + (maxL + 11) + lo' ≤ lo) (hstk : stk = vals.reverse ++ .ref am :: st) (hcat : (st.map fun v => v.category).sum ≤ 8)
    (hd : decode cc pc = .ok (.invokevirtual index, 3)) (hn : pc + 3 = n) (g : ∀ r, o' = some r → Gm p l e fr lo s m args below meth c nL D cl ci cA am n ls ((fin' r).1.toList ++ st) (fin' r).2 q (kk r)) : Gm p l e fr lo s m args below meth c nL D cl ci cA am pc ls stk μ q (o'.bind kk) := by
  subst hn
  subst hstk
  intro out ho h1 h2
  obtain ⟨r, hr, hk⟩ := Option.bind_eq_some_iff.mp ho
  have g' := g r hr out hk h1 h2
  refine ⟨g'.1, fun H locs la hR hS hl => ?_⟩
  intro T hT X
  obtain ⟨v, st₀, t, T', L, h0, X', hL, e1, e2, ⟨⟨hv, hP1, -⟩, hF⟩, stp⟩ := va_runV (As := vals) (rest := st) K (hC l D cl ci cA am hcl r hr) (cwV vals.length K.2.2.2.2 hw rfl rfl rfl hdd hroom) ⟨fun a U g mk q => by obtain ⟨q0, q1, q2⟩ := q; exact ⟨q0, q1, va_K.moved (u := U) (U := U.calling g mk a) (Vm.Alike.refl U.vm) q2⟩, va_recv hK hR (ci := ci) (q0 := 0) hcl rfl, fun U hU hW => ⟨rfl, by rw [hU]; exact hR, va_K.moved hW.alike hK⟩⟩ rfl rfl hl.1 rfl (lv_room hcat) hd ⟨Nat.zero_le _, Nat.zero_le _⟩ T hT X
  cases hv
  have hz : H.size ≤ t.heap.size := by rw [← h0]; exact hF.1
  have hS1 : va_S (mA am) s.heap T'.heap (locs ++ L) := by
    refine ⟨by rw [e1]; exact Nat.le_trans hS.1 hz, fun x hx hxA => ?_, fun z hzz => ?_⟩
    · rw [e1, hF.2 x (by rw [h0]; exact Nat.lt_of_lt_of_le hx hS.1) hxA, h0]
      exact hS.2.1 x hx hxA
    · rcases List.mem_append.mp hzz with h | h
      · exact hS.2.2 z h
      · exact hL z h
  obtain ⟨t2, a1, b1⟩ := g'.2 T'.heap (locs ++ L) la (by rw [e1]; exact hP1) hS1 hl T' rfl X'
  exact ⟨t2, stp t2 a1, b1⟩
end GM
