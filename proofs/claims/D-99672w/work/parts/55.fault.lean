/-! ===== a Fault: its constructor, and throwing it (own work over ctorPlainOffV, as the exceptions' text goes) ===== -/
section FLT
variable {p : Program} {l : Launch} {e : Env} {R : Room} {s : State} {m : MethodId} {args : Array Value} {below : List Frame} {meth : Method} {c : Code} {H : Heap} {locs : List Loc} {cells slots : Nat} {Q : State → Prop}
theorem flt_at (hts : ∀ w ∈ lw_all, w.before args s = true) (hU : (Cond.laysStatic Bundle.tN "UNASSIGNED_STACK" Bundle.steD).before args s = true) (hN : (Cond.laysStatic Bundle.tN "SUPPRESSED_SENTINEL" Bundle.listD).before args s = true) (hd : (Cond.declares (Bundle.init0 Bundle.tN)).before args s = true) :
    (∀ w ∈ Bundle.throwableAtoms, w.before args s = true) ∧ ∀ w ∈ Bundle.chain0Atoms "java/lang/Exception" [], w.before args s = true := by
  constructor
  · intro w hw
    simp only [Bundle.throwableAtoms, List.mem_cons, List.not_mem_nil, or_false] at hw
    rcases hw with h | h | h | h | h | h | h | h | h | h | h | h | h | h | h | h | h | h | h | h | h | h | h | h <;> rw [h]
    · exact hts _ q167
    · exact hts _ q667
    · exact hts _ q676
    · exact hts _ q678
    · exact hts _ q681
    · exact hts _ q683
    · exact hts _ q668
    · exact hts _ q669
    · exact hts _ q192
    · exact hts _ q193
    · exact hts _ q670
    · exact hts _ q675
    · exact hts _ q679
    · exact hts _ q696
    · exact hts _ q657
    · exact hts _ q697
    · exact hts _ q659
    · exact hts _ q698
    · exact hts _ q661
    · exact hts _ q671
    · exact hU
    · exact hts _ q673
    · exact hN
    · exact hts _ q663
  · intro w hw
    simp only [Bundle.chain0Atoms, Bundle.passAtoms, List.mem_cons, List.not_mem_nil, or_false] at hw
    rcases hw with h | h | h | h | h <;> rw [h]
    · exact hts _ q688
    · exact hts _ q689
    · exact hts _ q690
    · exact hts _ q668
    · exact hd
theorem dcO_ref (k : Nat) : (va_rf (dcO k)).isRef = true := by
  cases k <;> rfl
set_option maxHeartbeats 1000000 in
theorem flt_super {D : va_G} {cs : Cs} {z : Nat} {W : State} (X : Stand p l e R s m args below meth c W locs cells slots) (hexec : p.tables.exec = Jvm.exec) (htr : e.platform.stackTraces = false)
    (hown : s.vm.findClass "GingerRents$Fault" = some m.cls) (hts : ∀ w ∈ lw_all, w.before args s = true) (hK : xK D cs z s) (hS : va_S (xA z) s.heap W.heap locs)
    {a : Addr} {kX : Class} (hkX : s.vm.classes[D.1 6]? = some kX) (hcell : W.heap[a]? = some (freshCell (D.1 6) kX)) (ha : xA z a)
    {g : JFrame} (hg : g.method = m) (hsize : g.locals.size = c.maxLocals) (hstack : g.stack = [.ref a])
    (hd6 : decode c.code g.pc = .ok (.invokespecial 1, 3)) (hRframes : 3 < R.frames) (hRlocals : 2 * g.monitorRoom + 54 ≤ R.locals) :
    ∃ (V : State) (ce : Cell) (L : List Loc), Stand p l e R s m args below meth c (V.setCell a ce) (locs ++ L) cells slots ∧ (∀ y ∈ L, y.base = a) ∧ V.heap = W.heap ∧ va_at D clX (a, .inr (6, [.ref a, va_rf (dcO (cs 301)), va_rf (dcO (cs 302)), .null, .null, .int 0, .int 0, .int 0])) (V.setCell a ce).heap ∧
      ∀ target, Steps p.tables e below ((V.setCell a ce).setTop { g with stack := [], pc := g.pc + 3 }) target → Steps p.tables e below (W.setTop g) target := by
  have howns : e.platform.frameOwnsMonitors = true := by rw [X.admits.platform]
  have hfin : e.platform.finalization = false := by rw [X.admits.platform]
  have hpl : e.platform.magicAccessors = ({} : Platform).magicAccessors := by rw [X.admits.platform]
  have hO := hK.2.2.2.2.2.2
  have zU := hO.2.2.2.2.2.2.1
  have zN := hO.2.2.2.2.2.2.2.1.1
  obtain ⟨hA1, hA2⟩ := flt_at hts (vx_L.word zU.2) (vx_L.word zN.2) (va_Nw.use (A := args) rfl (nd_q652 hK.2))
  obtain ⟨T, Z, L, LZ, Y⟩ := ThrowableC.of_atoms (args := args) howns hfin hpl hA1
  obtain ⟨P1, Ps, hlen, L1, hL, hP1m, hlink1, hlink⟩ := Bundle.chain0 (args := args) hpl Y.init0 [] "java/lang/Exception" (by decide) (fun _ h => by cases h) hA2
  have hKn := hK.1.1 6 _ rfl
  obtain ⟨hSl, hfound, kX', hkX', hord⟩ := hKn
  cases Option.some.inj (hkX.symm.trans hkX')
  have hsel0 : selectMethod e.platform s.vm (D.1 6) T.fill0 = .method T.fill0 := by
    obtain ⟨c2, r2, m2, q1, q2, q3, q4, -⟩ := Cond.selects_spec (hts _ q654)
    cases Option.some.inj (q1.symm.trans hfound)
    cases Option.some.inj (q2.symm.trans (State.methodFound?_of_named Y.fill0 (by decide)))
    cases Option.some.inj (q3.symm.trans Y.fill0)
    rw [Launch.admits_selectMethod X.admits]; exact q4
  have hselF : selectMethod e.platform s.vm (D.1 6) T.fill = .method T.fill := by
    obtain ⟨c2, r2, m2, q1, q2, q3, q4, -⟩ := Cond.selects_spec (hts _ q655)
    cases Option.some.inj (q1.symm.trans hfound)
    cases Option.some.inj (q2.symm.trans (State.methodFound?_of_named Y.fill (by decide)))
    cases Option.some.inj (q3.symm.trans Y.fill)
    rw [Launch.admits_selectMethod X.admits]; exact q4
  -- the statics
  obtain ⟨cf, kf, fi, f, aS, cellS, u1, -, -, u4, u5, u6, u7, u8⟩ := zU.1
  cases Option.some.inj (u1.symm.trans Y.unassigned)
  cases Option.some.inj (u4.symm.trans L.statics)
  obtain ⟨cf2, kf2, fi2, f2, aS2, cellS2, v1, -, -, v4, v5, v6, v7, v8⟩ := zN.1
  cases Option.some.inj (v1.symm.trans Y.sentinel)
  cases Option.some.inj (v4.symm.trans L.statics)
  cases Option.some.inj (u5.symm.trans v5)
  have hcellS : W.heap[T.aS]? = some cellS := by rw [hS.2.1 T.aS (Array.getElem?_eq_some_iff.mp u5).1 u8]; exact u5
  have hneS : T.aS ≠ a := fun h => u8 (by rw [h]; exact ha)
  have hknownS : cellS.vm ≠ .unknown := fun h => by rw [h] at u6; cases u6
  obtain ⟨ci198, i198, fB, hk198, hg198, ha198, hsB, -, hnB, htB, hffB⟩ := Cond.ownField (t := .object "java/lang/Object") Y.found L.cls (by decide +kernel) (hts _ q695) (hts _ q665) e.platform hpl
  obtain ⟨tyC, dC, hdC, hdnC⟩ := Cond.laysAt hfound hkX Y.cause (hts _ q656)
  obtain ⟨tyS, dS, hdS, hdnS⟩ := Cond.laysAt hfound hkX Y.stack (hts _ q658)
  obtain ⟨tyP, dP, hdP, hdnP⟩ := Cond.laysAt hfound hkX Y.supp (hts _ q660)
  obtain ⟨tyB, dB, hdB, hdnB⟩ := Cond.laysAt hfound hkX hffB (hts _ q664)
  have bC := Cond.laysApart hdB hdC hdnB hdnC (by rw [hnB, Y.causeName]; decide)
  have bS := Cond.laysApart hdB hdS hdnB hdnS (by rw [hnB, Y.stackName]; decide)
  have bP := Cond.laysApart hdB hdP hdnB hdnP (by rw [hnB, Y.suppName]; decide)
  let u0 : RefV := ⟨va_rf (dcO (cs 301)), dcO_ref _⟩
  let sen : RefV := ⟨va_rf (dcO (cs 302)), dcO_ref _⟩
  have hskip : SkipFacts T e.platform s (fun u => u) u0 ((preparedCellV T.toThrowableT (freshCell (D.1 6) kX) a u0 sen).withEntry W.cur) :=
    ⟨{ ci198 := ci198, i198 := i198, fBack := fB }, ⟨hk198, hg198, ha198, hsB⟩, by
      have := fresh_default (c := D.1 6) tyB
      rw [htB] at this
      simpa [preparedCellV, Cell.setSlot, Cell.withEntry, Array.getElem?_setIfInBounds, bC, bS, bP, bC.symm, bS.symm, bP.symm, defaultValue] using this, fun _ _ => rfl⟩
  obtain ⟨tm, methC, cdC, kC, vm₁, hnC, -, -, -, -, -, -, -, hW₁, st1⟩ := Steps.initCold (tb := p.tables) (e := e) (below := below) (s := s) (U := W) X.here hexec X.warmed hpl hown (t := Bundle.init0 "java/lang/Exception") rfl rfl ⟨by decide, by decide⟩
    (hts _ q687) (hts _ q688) (bytes := Bundle.five) (maxL := 1) (hts _ q689) (f := g) hg (a := a) (rest := []) hstack hd6
  cases Option.some.inj (hnC.symm.trans hP1m)
  have X₁ := X.noted hW₁
  obtain ⟨vm₂, X₂, st2⟩ := X₁.ctorPlainOffV hexec (g := { g with stack := [] }) hg hsize T L Z LZ (P1 :: Ps)
    (fun P hP => by rcases List.mem_cons.mp hP with rfl | hP; exact L1; exact hL P hP) ⟨hlink1, hlink⟩ (u0 := u0) (sen := sen) (self := a) (cell := freshCell (D.1 6) kX) (cellS := cellS)
    hcell (fun _ => by simp) (by simp) rfl rfl hsel0 hselF hcellS hneS hknownS u7 v7
    (Takes.of_laid hkX hord tyC (by rw [Y.causeType]; rfl)) (Takes.of_laid hkX hord tyS (by rw [Y.stackType]; exact fits_refV_array _ u0)) (Takes.of_laid hkX hord tyP (by rw [Y.suppType]; exact fits_refV_object _ sen)) Y.objLocals hskip htr [] hd6
    (by simp only [List.length_cons, hlen]; exact hRframes) (by simp only [List.length_cons, hlen]; exact hRlocals)
  have hlt : a < ((W.setVm vm₁).setVm vm₂).heap.size := (Array.getElem?_eq_some_iff.mp hcell).1
  refine ⟨(W.setVm vm₁).setVm vm₂, _, _, X₂, fun y hy => ?_, rfl, ?_, fun target hwalk => st1 _ (fun acts => ?_)⟩
  · simp only [List.mem_cons, List.not_mem_nil, or_false] at hy
    rcases hy with rfl | rfl | rfl | rfl <;> rfl
  · have hb := u_born (H := #[freshCell (D.1 6) kX]) (o := 0) tyX6 hts in_X6 (hK.1.1 6 _ rfl) hkX rfl tyX6_ok
    obtain ⟨cb, b1, b2, b3, b4⟩ := hb
    cases b1
    have hap := va_apart (own := "GingerRents$Fault") hts in_X6 tyX6 tyX6_ok nmX6 hK.1 (ci := 6) rfl
    have e0 : T.fCause.slot = D.2 6 0 := by
      obtain ⟨_, _, _, f0, i0, r0⟩ := hSl 0 (by decide)
      cases Option.some.inj (i0.symm.trans Y.cause)
      exact r0
    have e1 : T.fStack.slot = D.2 6 1 := by
      obtain ⟨_, _, _, f0, i0, r0⟩ := hSl 1 (by decide)
      cases Option.some.inj (i0.symm.trans Y.stack)
      exact r0
    have e2 : T.fSupp.slot = D.2 6 2 := by
      obtain ⟨_, _, _, f0, i0, r0⟩ := hSl 2 (by decide)
      cases Option.some.inj (i0.symm.trans Y.supp)
      exact r0
    refine ⟨_, rfl, (preparedCellV T.toThrowableT (freshCell (D.1 6) kX) a u0 sen).setSlot T.fStack.slot u0.v, ?_, rfl, rfl, ?_⟩
    · show (((W.setVm vm₁).setVm vm₂).heap.setIfInBounds a _)[a]? = _
      rw [Array.getElem?_setIfInBounds_self_of_lt hlt]
    · intro k hk
      show (((((freshCell (D.1 6) kX).setSlot T.fCause.slot (.ref a)).setSlot T.fStack.slot u0.v).setSlot T.fSupp.slot sen.v).setSlot T.fStack.slot u0.v).slots[D.2 6 k]? = _
      rw [e0, e1, e2]
      have b5 : ∀ k, k < 8 → (freshCell (D.1 6) kX).slots[D.2 6 k]? = some ((fun k => defaultValue (tyX6 k)) k) := b4
      rw [t_set (t_set (t_set (t_set b5 hap (k := 0) (by decide) (.ref a)) hap (k := 1) (by decide) u0.v) hap (k := 2) (by decide) sen.v) hap (k := 1) (by decide) u0.v k hk]
      have h8 : k = 0 ∨ k = 1 ∨ k = 2 ∨ k = 3 ∨ k = 4 ∨ k = 5 ∨ k = 6 ∨ k = 7 := by
        have : k < 8 := hk
        omega
      rcases h8 with rfl | rfl | rfl | rfl | rfl | rfl | rfl | rfl <;> rfl
  · rw [doInvoke_state]
    exact st2 _ hwalk
end FLT
/-! ===== Fault.<init>(II)V as it is called right behind 'new' ===== -/
def fltPre (D : va_G) (cs : Cs) (z sz : Nat) (kd : Kd) (P : Ptr) (I : Mem) (U : State) : Prop := (∃ kX, U.vm.classes[D.1 6]? = some kX ∧ U.heap[sz]? = some (freshCell (D.1 6) kX)) ∧ xRep D cs z (sz + 1) kd (P, I) U.heap ∧ xK D cs z U
/-- the state behind it -/
def fltI (I : Mem) (sz : Nat) (x1 x2 : Int32) : Mem := up2 (up2 (upA I sz (fun _ => 0)) sz 6 x1) sz 7 x2
def fltQ (D : va_G) (cs : Cs) (z sz : Nat) (kd : Kd) (P : Ptr) (J : Mem) : Array Value → State → Outcome → State → Prop := fun _ st oc t => (oc = .returned none ∧ xRep D cs z (sz + 1) (upA kd sz (6, 0, 0)) (upA P sz (fun _ => none), J) t.heap) ∧ va_F (xA z) st t
def fltPost (D : va_G) (cs : Cs) (z sz : Nat) (kd : Kd) (P : Ptr) (I : Mem) (x1 x2 : Int32) : Array Value → State → Outcome → State → Prop := fun _ st oc t => (oc = .returned none ∧ xRep D cs z (sz + 1) (upA kd sz (6, 0, 0)) (upA P sz (fun _ => none), fltI I sz x1 x2) t.heap) ∧ va_F (xA z) st t
set_option maxRecDepth 100000 in
theorem flt_init {l : Launch} (hlt : l.stackTraces = false) {D : va_G} {cs : Cs} {z sz : Nat} {kd : Kd} {P : Ptr} {I : Mem} (x1 x2 : Int32) (hsh : Shp z kd) (hn : ¬ (kd sz).1 < 90) (hA : xA z sz) :
    Met l yX6_init (ws_ yX6_init cX6_init 3 none) ({ frames := 6, cells := 0, slots := 0, locals := 120 }) (va_Pc [.ref sz, .int x1, .int x2] (fltPre D cs z sz kd P I)) (fltPost D cs z sz kd P I x1 x2) 0 0 (xA z) := by
  refine Met.ofW (cc := cX6_init) (maxL := 3) (ret := none) (by decide) rfl ?_
  intro p e s m args below meth c s₁ B hml hv
  obtain ⟨rfl, ⟨kX, hkX, hcell⟩, hR, hK⟩ := hv
  have hts := atoms_spec (ws := ws_ yX6_init cX6_init 3 none) B.pre
  have hts : ∀ w ∈ lw_all, w.before _ s = true := fun w h => hts w (List.mem_cons_of_mem _ h)
  have hown : s.vm.findClass RX6 = some m.cls := findClass_of_methodNamed B.named
  have K : CallFix p m c cX6_init 3 s _ lw_all RX6 := ⟨B.exec, B.bytes, hml, hown, hts⟩
  have hlk := B.notSynchronized
  have hr := B.returns
  have hname := (name_of_methodNamed B.named B.method).1
  have hl := lv_entry [Value.ref sz, .int x1, .int x2] (n := 3) (Nat.le_of_ble_eq_true rfl)
  rw [lg_entry_eq]
  generalize ((lg_sl [Value.ref sz, .int x1, .int x2] ++ List.replicate (3 - (lg_sl [Value.ref sz, .int x1, .int x2]).length) Slot.unset).toArray) = la at hl ⊢
  have hsh1 : Shp z (upA kd sz (6, 0, 0)) := Shp.new hsh hn hA (by show plainK 6; unfold plainK; omega)
  have hk6 : upA kd sz (6, 0, 0) sz = (6, 0, 0) := if_pos rfl
  have rest : Gx p l e 6 120 s m [Value.ref sz, .int x1, .int x2].toArray below meth c 3 (0, 0) (0, 0) D cs z (sz + 1) (upA kd sz (6, 0, 0)) 4 [(0, .ref sz), (1, .int x1), (2, .int x2)] [] (upA P sz (fun _ => none), upA I sz (fun _ => 0)) (fun out : Mem => (((0, 0), MQ below (fltQ D cs z sz kd P out) [Value.ref sz, .int x1, .int x2].toArray s 0 0 (xA z)) : En)) (nm (up2 (upA I sz (fun _ => 0)) sz 6 x1) fun I1 => nm (up2 I1 sz 7 x2) fun I2 => some I2) := by
    refine g_aloadn K 0 rfl rfl 5 dX6_init_4 rfl ?_
    refine g_iloadn K 1 rfl rfl 6 dX6_init_5 rfl ?_
    refine ga_putF K hK hsh1 6 (ty := .int) 9 in_X6 tyX6 tyX6_ok nmX6 hk6 rfl rfl (Nat.le_of_ble_eq_true rfl) rfl (by decide) q691 rfl hname rfl (by decide +kernel) rfl rfl (Nat.le_of_ble_eq_true rfl) dX6_init_6 rfl (fun I1 _ => ?_)
    refine g_aloadn K 0 rfl rfl 10 dX6_init_9 rfl ?_
    refine g_iloadn K 2 rfl rfl 11 dX6_init_10 rfl ?_
    refine ga_putF K hK hsh1 7 (ty := .int) 14 in_X6 tyX6 tyX6_ok nmX6 hk6 rfl rfl (Nat.le_of_ble_eq_true rfl) rfl (by decide) q693 rfl hname rfl (by decide +kernel) rfl rfl (Nat.le_of_ble_eq_true rfl) dX6_init_11 rfl (fun I2 _ => ?_)
    intro out ho h1 h2
    cases ho
    exact ⟨⟨Nat.le_refl _, Nat.le_refl _⟩, fun H locs la hR hS hl => W.vret (Qc := fltQ D cs z sz kd P I2) (free := xA z) K.1 K.2.1 hr (fun t ht hW => ⟨⟨rfl, by rw [ht]; exact hR⟩, hS.F ht⟩) hS.2.2 dX6_init_14 hlk⟩
  refine lv_aload_n K.1 K.2.1 dX6_init_0 rfl (lv_at hl 0 rfl) ?_
  intro T hT X
  have htr : e.platform.stackTraces = false := (show e.platform.stackTraces = l.stackTraces by rw [X.admits.platform]).trans hlt
  obtain ⟨V, ce, L, X', hL, hV, hat, stp⟩ := flt_super X K.1 htr hown hts hK (by rw [hT]; exact va_S.rf) hkX (by rw [hT]; exact hcell) hA (g := F0 m (0 + 1) la [.ref sz]) rfl (hl.1.trans hml.symm) rfl (by rw [B.bytes]; exact dX6_init_1) (Nat.le_of_ble_eq_true rfl) (Nat.le_of_ble_eq_true rfl)
  have hlt2 : sz < s.heap.size := (Array.getElem?_eq_some_iff.mp hcell).1
  have hheap : ∀ q : Nat, q ≠ sz → (V.setCell sz ce).heap[q]? = s.heap[q]? := by
    intro q hq
    show (V.heap.setIfInBounds sz ce)[q]? = _
    rw [Array.getElem?_setIfInBounds_ne (fun h => hq h.symm), hV, hT]
  have hsz1 : (V.setCell sz ce).heap.size = sz + 1 := by
    show (V.heap.setIfInBounds sz ce).size = _
    rw [Array.size_setIfInBounds, hV, hT]; exact hR.1
  have hR1 : xRep D cs z (sz + 1) (upA kd sz (6, 0, 0)) (upA P sz (fun _ => none), upA I sz (fun _ => 0)) (V.setCell sz ce).heap := by
    refine ⟨hsz1, fun b hb => ?_⟩
    by_cases hbs : b = sz
    · subst hbs
      show va_at D clX (b, cellE cs z (upA kd b (6, 0, 0) b) b (upA P b (fun _ => none) b) (upA I b (fun _ => 0) b)) _
      rw [show upA kd b (6, 0, 0) b = (6, 0, 0) from if_pos rfl, show upA I b (fun _ => (0 : Int32)) b = (fun _ => 0) from if_pos rfl]
      exact hat
    · show va_at D clX (b, cellE cs z (upA kd sz (6, 0, 0) b) b (upA P sz (fun _ => none) b) (upA I sz (fun _ => 0) b)) _
      rw [show upA kd sz (6, 0, 0) b = kd b from if_neg hbs, show upA P sz (fun _ => none) b = P b from if_neg hbs, show upA I sz (fun _ => (0 : Int32)) b = I b from if_neg hbs]
      refine (hR.2 b (by rwa [show upA kd sz (6, 0, 0) b = kd b from if_neg hbs] at hb)).kept (hheap b hbs)
  have hS1 : va_S (xA z) s.heap (V.setCell sz ce).heap ([] ++ L) := by
    refine ⟨by rw [hsz1, hR.1]; exact Nat.le_refl _, fun q hq hxA => hheap q (fun h => hxA (by rw [h]; exact hA)), fun y hy => ?_⟩
    have := hL y (by simpa using hy)
    rw [this]; exact hA
  obtain ⟨t2, a1, b1⟩ := (rest _ rfl (Nat.le_refl _) (Nat.le_refl _)).2 _ _ la hR1 hS1 hl _ rfl X'
  exact ⟨t2, stp t2 a1, b1⟩
section GTF
variable {p : Program} {l : Launch} {e : Env} {fr lo : Nat} {s : State} {m : MethodId} {args : Array Value} {below : List Frame} {meth : Method} {c : Code} {nL : Nat} {c0 : Nat × Nat} {D : va_G} {cs : Cs} {z sz : Nat} {kd : Kd} {pc : Nat} {ls : List (Nat × Value)} {P : Ptr} {I : Mem} {cc : ByteArray} {own : String}
/-- throw new Fault(k, start) -/
def thrF {R : Type} (z sz sl : Nat) (kd : Kd) (P : Ptr) (I : Mem) (a : Nat) (k : Int32) : Option ((Nat ⊕ R) × Sy) := (al z kd sz).bind fun _ => some (.inl sz, sz + 1, sl + 8, upA kd sz (6, 0, 0), upA P sz (fun _ => none), fltI I sz k (I a 3))
theorem wdb_x6_init : yX6_init.cls ≠ "java/lang/invoke/MethodHandle" ∧ yX6_init.cls ≠ "java/lang/invoke/VarHandle" ∧ (parseMethodDescriptor yX6_init.desc).map (fun d => d.parameters.length) = some 2 := by decide
set_option maxRecDepth 100000 in
theorem ge_throwF (K : CallFix p m c cc nL s args lw_all RX5) (hK : xK D cs z s) (hsh : Shp z kd) (hlt : l.stackTraces = false) (hxt : ∀ x ∈ c.exceptionTable.toList, False) (hlk : meth.locks = false) {R : Type} {fv : R → Option Value} {sl a j : Nat} {ik : Int} (k : Int32) (hk : Int32.ofInt ik = k) (hka : kd a = (5, 0, 0)) (hj : ls[j]? = some (0, .ref a)) (hroom : 7 ≤ fr ∧ 142 ≤ lo)
    (d0 : decode cc pc = .ok (.new 123, 3)) (d1 : decode cc (pc + 3) = .ok (.dup, 1)) (d2 : decode cc (pc + 4) = .ok (.iconst ik, 1)) (d3 : decode cc (pc + 5) = .ok (.aload_n 0, 1)) (d4 : decode cc (pc + 6) = .ok (.getfield 41, 3)) (d5 : decode cc (pc + 9) = .ok (.invokespecial 125, 3)) (d6 : decode cc (pc + 12) = .ok (.athrow, 1)) :
    Gx p l e fr lo s m args below meth c nL c0 (sz, sl) D cs z sz kd pc ls [] (P, I) (eq_ D cs z c0 s args below fv) (thrF z sz sl kd P I a k) := by
  intro out ho h1 h2
  obtain ⟨u, hu, hout⟩ := Option.bind_eq_some_iff.mp ho
  cases hout
  obtain ⟨hfree, hxA⟩ := al_some hu
  have h1' : c0.1 ≤ sz := h1
  have h2' : c0.2 ≤ sl := h2
  refine ⟨⟨Nat.le_succ _, Nat.le_add_right _ _⟩, fun H locs la hR hS hl => ?_⟩
  refine W.newc K.1 K.2.1 K.2.2.2.1 (K.2.2.2.2 _ q647) (K.2.2.2.2 _ q648) (K.2.2.2.2 _ q169) rfl d0 (by show sz - c0.1 + 1 ≤ sz + 1 - c0.1; omega) (by show sl - c0.2 + 8 ≤ sl + 8 - c0.2; omega) (fun cC kC f1 f2 f3 f4 => ?_)
  have hKn := hK.1.1 6 _ rfl
  have hcC : cC = D.1 6 := Option.some.inj (f1.symm.trans hKn.2.1)
  subst hcC
  have hsz : H.size = sz := hR.1
  have hne : a ≠ sz := fun h => hfree (by rw [← h, hka]; exact Nat.le_of_ble_eq_true rfl)
  have hRp : xRep D cs z (sz + 1) kd (P, I) (H.push (freshCell (D.1 6) kC)) := by
    refine ⟨by rw [Array.size_push, hsz], fun b hb => ?_⟩
    have hat := hR.2 b hb
    refine hat.kept ?_
    have hltb : b < H.size := hat.lt
    show (H.push _)[b]? = H[b]?
    rw [Array.getElem?_push_lt hltb, Array.getElem?_eq_getElem hltb]
  have hSp := xS_push (cell := freshCell (D.1 6) kC) hS
  have hcell : (H.push (freshCell (D.1 6) kC))[sz]? = some (freshCell (D.1 6) kC) := by rw [← hsz, Array.getElem?_push_size]
  rw [show H.size = sz from hsz]
  refine lv_dup K.1 K.2.1 d1 rfl ?_
  refine lv_iconst K.1 K.2.1 d2 hk ?_
  refine lv_aload_n K.1 K.2.1 d3 rfl (lv_at hl j hj) ?_
  have hata := hRp.2 a (by rw [hka]; exact Nat.le_of_ble_eq_true rfl)
  rw [hka] at hata
  have hPa : va_P D clX [(a, cellE cs z (5, 0, 0) a (P a) (I a))] (H.push (freshCell (D.1 6) kC)) := fun i q hi => by
    cases i with
    | zero => cases hi; exact hata
    | succ i => simp at hi
  refine va_get (D := D) (cl := clX) (ci := 5) (C := RX5) (T := TX5) (N := 9) (v := .int (I a 3)) K.1 K.2.1 K.2.2.2.2 in_X5 K.2.2.2.1 hK.1 hPa 0 rfl rfl 3 (by decide) (K.2.2.2.2 _ q499) (fun _ h9 => h9) rfl d4 ?_
  have hMet := flt_init (l := l) hlt (D := D) (cs := cs) (z := z) (sz := sz) (kd := kd) (P := P) (I := I) k (I a 3) hsh hfree hxA
  intro T0 hT X
  obtain ⟨v, st₀, t, T', L, h0, X', hL, e1, e2, ⟨⟨hv, hP1⟩, hF⟩, stp⟩ := va_runI (As := [.int k, .int (I a 3)]) (b := sz) (rest := [.ref sz]) (g := F0 m (pc + 9) la [.int (I a 3), .int k, .ref sz, .ref sz]) K hMet (cwI 2 K.2.2.2.2 (lw_meth q686) rfl rfl rfl (K.2.2.2.2 _ q169) (K.2.2.2.2 _ q684) (K.2.2.2.2 _ q685) rfl wdb_x6_init ⟨hroom.1, hroom.2⟩) ⟨fun a U g mk q => by obtain ⟨q0, ⟨kX, q11, q12⟩, q2, q3⟩ := q; exact ⟨q0, ⟨kX, q11, q12⟩, q2, xK.same rfl rfl q3⟩, fun U hU hW => ⟨rfl, (by obtain ⟨k', hk', he⟩ := hW.alike.2.2 _ _ f2; exact ⟨k', hk', by rw [hU, hcell, he]⟩), by rw [hU]; exact hRp, xK.warm hW hSp hU hK⟩⟩ rfl rfl hl.1 rfl (lv_room (Nat.le_of_ble_eq_true rfl)) d5 ⟨by show sz - c0.1 + 1 + 0 ≤ sz + 1 - c0.1; omega, by show sl - c0.2 + 8 + 0 ≤ sl + 8 - c0.2; omega⟩ T0 hT X
  cases hv
  have hz : (H.push (freshCell (D.1 6) kC)).size ≤ t.heap.size := by rw [← h0]; exact hF.1
  have hS1 : va_S (xA z) s.heap T'.heap (locs ++ L) := by
    refine ⟨by rw [e1]; exact Nat.le_trans hSp.1 hz, fun x hx hxA => ?_, fun z hzz => ?_⟩
    · rw [e1, hF.2 x (by rw [h0]; exact Nat.lt_of_lt_of_le hx hSp.1) hxA, h0]
      exact hSp.2.1 x hx hxA
    · rcases List.mem_append.mp hzz with h | h
      · exact hS.2.2 z h
      · exact hL z h
  have hRt : xRep D cs z (sz + 1) (upA kd sz (6, 0, 0)) (upA P sz (fun _ => none), fltI I sz k (I a 3)) T'.heap := by rw [e1]; exact hP1
  have hatf := hRt.2 sz (by rw [show upA kd sz (6, 0, 0) sz = (6, 0, 0) from if_pos rfl]; exact Nat.le_of_ble_eq_true rfl)
  rw [show upA kd sz (6, 0, 0) sz = (6, 0, 0) from if_pos rfl] at hatf
  obtain ⟨r', hr', cellV, g1, g2, g3, -⟩ := hatf
  have c1 : sz - c0.1 + 1 + 0 = sz + 1 - c0.1 := by omega
  have c2 : sl - c0.2 + 8 + 0 = sl + 8 - c0.2 := by omega
  rw [c1, c2] at X'
  have w : W p l e _ s m args below meth c T'.heap (locs ++ L) (sz + 1 - c0.1) (sl + 8 - c0.2) (eq_ D cs z c0 s args below fv (.inl sz, sz + 1, sl + 8, upA kd sz (6, 0, 0), upA P sz (fun _ => none), fltI I sz k (I a 3))).2 (F0 m (pc + 9 + 3) la [.ref sz]) := vx_athrow (R := { frames := fr, cells := sz + 1 - c0.1, slots := sl + 8 - c0.2, locals := lo }) K.1 K.2.1 d6 (vy_out (E := "GingerRents$Fault") (ce := cellV) (fun x hx => (hxt x hx).elim) hlk g1 g3 (by rw [g2]; exact hKn.2.1) (fun t ht hW => ⟨rfl, rfl, by rw [ht]; exact hRt, hS1.F ht⟩) hS1.2.2 (Nat.le_refl _) (Nat.le_refl _))
  obtain ⟨t2, a1, b1⟩ := w T' rfl X'
  exact ⟨t2, stp t2 a1, b1⟩
end GTF
