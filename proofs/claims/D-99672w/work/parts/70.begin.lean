/-! ===== the law's beginning: both objects made ===== -/
/-- nothing is ours yet -/
def kdE : Kd := fun _ => (99, 0, 0)
def PE : Ptr := fun _ _ => none
def IE : Mem := fun _ _ => 0
/-- the model's fields that are arrays: at which cell -/
def moff : Nat → Option Nat := fun k => ((List.range 45).find? (fun j => decide (j ≠ 0) && decide ((mF 0 (fun _ _ => 0))[k]? = some (.ref (0 + j)))))
def muOf (am : Nat) (I : Mem) : Mem := fun k => match moff k with
  | some j => I (am + j)
  | none => fun _ => I am k
/-- the model's cells as its constructor leaves them -/
def mFin (am : Nat) (kd : Kd) (P : Ptr) (I : Mem) : Prop := ∀ (cs : Cs) (j : Nat) (q : Nat × va_E), (wm 4 (cs 0) am (muOf am I))[j]? = some q → (kd q.1).1 < 90 ∧ cellE cs am (kd q.1) q.1 (P q.1) (I q.1) = q.2
theorem Shp_E (z : Nat) : Shp z kdE := by
  unfold Shp kdE
  simp
theorem Shp_44 (am : Nat) : Shp am (upA kdE am (44, 0, 0)) := Shp.new (Shp_E am) (by unfold kdE; decide) ⟨Nat.le_refl _, Or.inl (by omega)⟩ (by show plainK 44; unfold plainK; omega)
section GLN
variable {p : Program} {l : Launch} {e : Env} {s : State} {m : MethodId} {args : Array Value} {below : List Frame} {meth : Method} {c : Code} {D : va_G} {cs : Cs} {z sl : Nat} {kd : Kd} {O : Type} {ls : List (Nat × Value)} {P : Ptr} {I : Mem} {q : O → En}
set_option maxRecDepth 100000 in
theorem gl_newM (K : CallFix p m c code 4 s args lw_all R_law) (hlt : l.stackTraces = false) (hK : xK D cs z s) (hKm : xK D cs (z + 2463) s) (hz0 : s.heap.size = z) (hsh : Shp z kd) {kk : Nat → Nat → Mem → Option O}
    (g : ∀ sz2 sl2 I2, Gl p l e s m args below meth c D cs z 15 ls [.ref (z + 2463)] ((sz2, sl2, kd, P, I), muOf (z + 2463) I2) q (kk sz2 sl2 I2)) :
    Gx p l e 8192 100000 s m args below meth c 4 (z, 0) (z + 2463, sl) D cs z (z + 2463) kd 8 ls [] (P, I) q (cal (x4_init (z + 2463) (z + 2463 + 1) (sl + 75) (upA kdE (z + 2463) (44, 0, 0)) PE IE (z + 2463)) fun _ sz2 sl2 kd2 P2 I2 => chk (mFin (z + 2463) kd2 P2 I2) (kk sz2 sl2 I2)) := by
  intro out ho h1 h2
  obtain ⟨r, hr, hk⟩ := Option.bind_eq_some_iff.mp ho
  obtain ⟨hfin, hk⟩ := chk_some hk
  obtain ⟨⟨mm1, mm2⟩, hMet⟩ := ct_x4_init (cs := cs) (z := z + 2463) (z + 2463 + 1) (sl + 75) (upA kdE (z + 2463) (44, 0, 0)) PE IE (z + 2463) (if_pos rfl) l D hlt (Shp_44 _) r hr
  obtain ⟨u, sz2, sl2, kd2, P2, I2⟩ := r
  have mm1 : z + 2463 + 1 ≤ sz2 := mm1
  have mm2 : sl + 75 ≤ sl2 := mm2
  have hfin : mFin (z + 2463) kd2 P2 I2 := hfin
  have g' := g sz2 sl2 I2 out hk (by show z ≤ sz2; omega) (Nat.zero_le _)
  have n1 : sz2 ≤ (q out).1.1 := g'.1.1
  have n2 : sl2 ≤ (q out).1.2 := g'.1.2
  refine ⟨⟨by show z + 2463 ≤ _; omega, by show sl ≤ _; omega⟩, fun H locs la hR hS hl => ?_⟩
  have hsz : H.size = z + 2463 := hR.1
  refine W.newc K.1 K.2.1 K.2.2.2.1 (K.2.2.2.2 _ q1479) (K.2.2.2.2 _ q1480) (K.2.2.2.2 _ q158) rfl dL_law_8 (by show z + 2463 - z + 1 ≤ (q out).1.1 - z; omega) (by show sl - 0 + 75 ≤ (q out).1.2 - 0; omega) (fun cC kC f1 f2 f3 f4 => ?_)
  have hKn := hK.1.1 4 _ rfl
  have hcC : cC = D.1 4 := Option.some.inj (f1.symm.trans hKn.2.1)
  subst hcC
  rw [show H.size = z + 2463 from hsz]
  have hat : va_at D clX (z + 2463, cellE cs (z + 2463) (44, 0, 0) (z + 2463) (fun _ => none) (fun _ => 0)) (H.push { cls := D.1 4, slots := kC.instanceTypes.map defaultValue, vm := .none }) := by
    refine ⟨_, rfl, ?_⟩
    have hb := u_born (H := H.push { cls := D.1 4, slots := kC.instanceTypes.map defaultValue, vm := .none }) (o := z + 2463) tyX4 K.2.2.2.2 in_X4 hKn f2 (by rw [← hsz, Array.getElem?_push_size]; rfl) tyX4_ok
    exact hb.to (by decide)
  have hRm : xRep D cs (z + 2463) (z + 2463 + 1) (upA kdE (z + 2463) (44, 0, 0)) (PE, IE) (H.push { cls := D.1 4, slots := kC.instanceTypes.map defaultValue, vm := .none }) := by
    refine ⟨by rw [Array.size_push, hsz], fun a ha => ?_⟩
    by_cases e : a = z + 2463
    · subst e
      rw [show upA kdE (z + 2463) (44, 0, 0) (z + 2463) = (44, 0, 0) from if_pos rfl]
      exact hat
    · rw [show upA kdE (z + 2463) (44, 0, 0) a = (99, 0, 0) from if_neg e] at ha
      exact absurd ha (by decide)
  have hSp := xS_push (cell := { cls := D.1 4, slots := kC.instanceTypes.map defaultValue, vm := .none }) hS
  refine lv_dup K.1 K.2.1 dL_law_11 rfl ?_
  intro T0 hT X
  obtain ⟨v, st₀, t, T', L, h0, X', hL, e1, e2, ⟨⟨hv, hP1⟩, hF⟩, stp⟩ := va_runI (As := []) (b := z + 2463) (rest := [.ref (z + 2463)]) (g := F0 m (8 + 3 + 1) la [.ref (z + 2463), .ref (z + 2463)]) K hMet (cwI 0 K.2.2.2.2 (lw_meth q1483) rfl rfl rfl (K.2.2.2.2 _ q158) (K.2.2.2.2 _ q1481) (K.2.2.2.2 _ q1482) rfl wdb_x4_init ⟨Nat.le_of_ble_eq_true rfl, Nat.le_of_ble_eq_true rfl⟩) ⟨fun a U g mk q => by obtain ⟨q0, q1, q2⟩ := q; exact ⟨q0, q1, xK.same rfl rfl q2⟩, fun U hU hW => ⟨rfl, by rw [hU]; exact hRm, xK.warm (locs := []) hW ⟨Nat.le_trans hS.1 (by rw [Array.size_push]; exact Nat.le_succ _), fun q hq _ => hSp.2.1 q hq (fun h => by have := h.1; omega), fun _ h => by cases h⟩ hU hKm⟩⟩ rfl rfl hl.1 rfl (lv_room (Nat.le_of_ble_eq_true rfl)) dL_law_12 ⟨by show z + 2463 - z + 1 + (sz2 - (z + 2463 + 1)) ≤ (q out).1.1 - z; omega, by show sl - 0 + 75 + (sl2 - (sl + 75)) ≤ (q out).1.2 - 0; omega⟩ T0 hT X
  cases hv
  have hz : (H.push { cls := D.1 4, slots := kC.instanceTypes.map defaultValue, vm := .none }).size ≤ t.heap.size := by rw [← h0]; exact hF.1
  have hold : ∀ x : Nat, x < z + 2463 → T'.heap[x]? = H[x]? := fun x hx => by
    rw [e1, hF.2 x (by rw [h0, Array.size_push, hsz]; omega) (fun h => by have := h.1; omega), h0]
    have hlt : x < H.size := by rw [hsz]; exact hx
    rw [Array.getElem?_push_lt hlt, Array.getElem?_eq_getElem hlt]
  have hS1 : va_S (fun q => z ≤ q) s.heap T'.heap (locs ++ L) := by
    refine ⟨by rw [e1]; exact Nat.le_trans hSp.1 hz, fun x hx hxA => ?_, fun y hy => ?_⟩
    · have hx' : x < z := by rw [← hz0]; exact hx
      rw [hold x (by omega)]
      exact hS.2.1 x hx (fun h => by have := h.1; omega)
    · rcases List.mem_append.mp hy with h | h
      · exact (hS.2.2 y h).1
      · have := (hL y h).1
        show z ≤ y.base
        omega
  have hX1 : yRep D cs z (sz2, sl2, kd, P, I) T'.heap := by
    refine ⟨by rw [e1]; exact hP1.1, fun a ha => ?_⟩
    have ha' := hR.2 a ha
    exact ha'.kept (hold a (by rw [← hsz]; exact ha'.lt))
  have hM1 : mRep D clX 4 (cs 0) (z + 2463) (muOf (z + 2463) I2) T'.heap := by
    intro j w hw
    obtain ⟨f1, f2⟩ := hfin cs j w hw
    have := hP1.2 w.1 f1
    rw [e1]
    have e3 : (w.1, w.2) = w := rfl
    rw [← e3, ← f2]
    exact this
  have c1 : z + 2463 - z + 1 + (sz2 - (z + 2463 + 1)) = sz2 - z := by omega
  have c2 : sl - 0 + 75 + (sl2 - (sl + 75)) = sl2 - 0 := by omega
  have X'' : Stand p l e _ s m args below meth c T' (locs ++ L) (z + 2463 - z + 1 + (sz2 - (z + 2463 + 1))) (sl - 0 + 75 + (sl2 - (sl + 75))) := X'
  rw [c1, c2] at X''
  obtain ⟨t2, a1, b1⟩ := g'.2 T'.heap (locs ++ L) la ⟨hX1, hM1⟩ hS1 hl T' rfl X''
  exact ⟨t2, stp t2 a1, b1⟩
end GLN
/-- the law, whole, in pure words -/
noncomputable def lawP (z em L : Nat) (xs : Nat → Int32) : Option Unit :=
  (al z kdE z).bind fun _ =>
  nmA (z + 1) (0 + 19) (upA kdE z (40, 0, 0)) (upA PE z (fun _ => none)) (upA IE z (fun _ => 0)) fun sz1 sl1 kd1 P1 I1 =>
  cal (x0_init z em sz1 sl1 kd1 P1 I1) fun _ sz2 sl2 kd2 P2 I2 =>
  chk (sz2 = z + 2463 ∧ Shp z kd2) <|
  cal (x4_init (z + 2463) (z + 2463 + 1) (sl2 + 75) (upA kdE (z + 2463) (44, 0, 0)) PE IE (z + 2463)) fun _ sz3 sl3 kd3 P3 I3 =>
  chk (mFin (z + 2463) kd3 P3 I3) <|
  lawL z em L xs fuel ((nI 0), sz3, sl3, kd2, P2, I2, muOf (z + 2463) I3)
set_option maxRecDepth 100000 in
/-- if the pure words come to an end, the law does, with true -/
theorem whole_of {p : Program} {e : Env} {s : State} {m : MethodId} {below : List Frame} {meth : Method} {c : Code} (l : Launch) (hflags : l.flags = flags0) {b L : Nat} {xs : Nat → Int32} (C0 : lw_At p s m meth c b L xs) (hP : ∀ em, lawP s.heap.size em L xs = some ()) : W p l e room_1 s m #[Value.ref b] below meth c s.heap [] 0 0 (lw_Z below #[Value.ref b] s) (entryFrame m ([Value.ref b] : List Value).toArray 4) := by
  have hlt := lt_trace hflags
  obtain ⟨D, cs, hKz⟩ := start_K C0
  obtain ⟨hx, hb, hr, hml, hown, hts, hX, hbl, hlocks, hgv⟩ := id C0
  have hta : ∀ w ∈ lw_all, w.before #[Value.ref b] s = true := fun w h => hts w (lw_all_tbl h)
  have K : CallFix p m c code 4 s #[Value.ref b] lw_all R_law := ⟨hx, hb, hml, hown, hta⟩
  have hK := hKz s.heap.size (Nat.le_refl _)
  have hKm := hKz (s.heap.size + 2463) (Nat.le_add_right _ _)
  have hl := lv_entry ([Value.ref b]) (n := 4) (Nat.le_of_ble_eq_true rfl)
  rw [lg_entry_eq]
  have hz0 : s.heap.size = s.heap.size := rfl
  have key : Gx p l e 8192 100000 s m #[Value.ref b] below meth c 4 (s.heap.size, 0) (s.heap.size, 0) D cs s.heap.size s.heap.size kdE 0 [(0, .ref b)] [] (PE, IE) (lawQ s.heap.size below b s) (lawP s.heap.size (cs 300) L xs) := by
    unfold lawP
    have hsh := Shp_E s.heap.size
    refine ga_new K hK hsh (ci := 0) (40, 0, 0) 3 in_X0 tyX0 tyX0_ok q186 q187 q151 rfl (fun _ => rfl) (by decide) (by show plainK 40; unfold plainK; omega) dL_law_0 rfl (fun hn hsh => ?_)
    refine g_nmA (fun sz1 sl1 kd1 P1 I1 _ _ he _ _ => ?_)
    replace hsh : Shp s.heap.size kd1 := by rw [he]; exact hsh
    have hk := kd_new he
    refine g_dup K rfl 4 dL_law_3 rfl ?_
    refine gb_callI K hK hsh hlt 7 (ct_x0_init sz1 sl1 kd1 P1 I1 hk) (lw_meth q190) q151 q188 q189 rfl wdb_x0_init (by decide) rfl (Nat.le_of_ble_eq_true rfl) dL_law_4 rfl (fun _ sz2 sl2 kd2 P2 I2 _ => ?_)
    refine g_chk (fun hc => ?_)
    obtain ⟨hs2, hsh2⟩ := hc
    subst hs2
    refine g_astoren K [(0, .ref b), (1, .ref s.heap.size)] [1, 0] rfl (by decide) rfl 8 dL_law_7 rfl ?_
    refine gl_newM K hlt hK hKm rfl hsh2 (kk := fun sz3 sl3 I3 => lawL s.heap.size (cs 300) L xs fuel ((nI 0), sz3, sl3, kd2, P2, I2, muOf (s.heap.size + 2463) I3)) (fun sz3 sl3 I3 => ?_)
    refine g_astoren K [(0, .ref b), (1, .ref s.heap.size), (2, .ref (s.heap.size + 2463))] [1, 2, 0] rfl (by decide) rfl 16 dL_law_15 rfl ?_
    refine g_iconst K (nI 0) ic_0 17 dL_law_16 rfl ?_
    refine g_istoren K [(0, .ref b), (1, .ref s.heap.size), (2, .ref (s.heap.size + 2463)), (3, .int (nI 0))] [1, 2, 3, 0] rfl (by decide) rfl 18 dL_law_17 rfl ?_
    exact ct_law K hlt hK rfl hX hbl hbl hr hlocks fuel ((nI 0), sz3, sl3, kd2, P2, I2, muOf (s.heap.size + 2463) I3)
  have w := (key () (hP _) (Nat.le_refl _) (Nat.le_refl _)).2 s.heap [] _ ⟨rfl, fun a ha => absurd ha (by unfold kdE; decide)⟩ va_S.rf hl
  dsimp only at w
  rw [Nat.sub_self, Nat.sub_self] at w
  have hroom : ({ frames := 8192, cells := (lawQ s.heap.size below b s ()).1.1 - s.heap.size, slots := (lawQ s.heap.size below b s ()).1.2 - 0, locals := 100000 } : Room) = room_1 := by
    show ({ frames := 8192, cells := s.heap.size + 601024 - s.heap.size, slots := 7293034 - 0, locals := 100000 } : Room) = _
    rw [Nat.add_sub_cancel_left]
    rfl
  rw [hroom] at w
  exact w
