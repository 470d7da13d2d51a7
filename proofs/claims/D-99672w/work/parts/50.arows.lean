
/-! ===== making cells ===== -/
/-- the next address is free -/
def al (z : Nat) (kd : Kd) (sz : Nat) : Option Unit := if (kd sz).1 < 90 ∨ ¬ (z ≤ sz ∧ (sz < z + 2463 ∨ z + 2508 ≤ sz)) then none else some ()
theorem al_some {z : Nat} {kd : Kd} {sz : Nat} {u : Unit} (h : al z kd sz = some u) : ¬ (kd sz).1 < 90 ∧ xA z sz := by
  unfold al at h
  split at h
  · cases h
  · next hn => exact ⟨fun h => hn (Or.inl h), Classical.byContradiction fun h => hn (Or.inr h)⟩
/-- kinds that the shape asks nothing of -/
def plainK (k : Nat) : Prop := k ≠ 0 ∧ k ≠ 1 ∧ k ≠ 2 ∧ k ≠ 3 ∧ k ≠ 5 ∧ k ≠ 22 ∧ k ≠ 23
theorem kd_keep {kd kd1 : Kd} {sz b : Nat} {t kt : Nat × Nat × Nat} (hn : ¬ (kd sz).1 < 90) (h1 : kd1 = upA kd sz t) (h90 : kt.1 < 90) (hb : kd b = kt) : kd1 b = kt := by
  subst h1
  unfold upA
  rw [if_neg]
  · exact hb
  · intro e
    subst e
    rw [hb] at hn
    exact hn h90
theorem kd_new {kd kd1 : Kd} {sz : Nat} {t : Nat × Nat × Nat} (h1 : kd1 = upA kd sz t) : kd1 sz = t := by
  subst h1
  exact if_pos rfl
theorem Shp.new {z : Nat} {kd : Kd} {sz : Nat} {t : Nat × Nat × Nat} (h : Shp z kd) (hn : ¬ (kd sz).1 < 90) (hA : xA z sz) (hp : plainK t.1) : Shp z (upA kd sz t) := by
  have old : ∀ {a : Nat} {k : Nat × Nat × Nat}, upA kd sz t a = k → (plainK k.1 → False) → kd a = k := by
    intro a k e hk
    unfold upA at e
    split at e
    · subst e; exact absurd hp hk
    · exact e
  have kk : ∀ (b : Nat) (k : Nat × Nat × Nat), k.1 < 90 → kd b = k → upA kd sz t b = k := fun b k h9 hb => kd_keep hn rfl h9 hb
  refine ⟨fun a ha => ?_, fun a ha => kk _ _ (Nat.le_of_ble_eq_true rfl) (sh_0_tape h (old ha (by show plainK 0 → False; intro q; unfold plainK at q; omega))), fun a ha => kk _ _ (Nat.le_of_ble_eq_true rfl) (sh_0_borough h (old ha (by show plainK 0 → False; intro q; unfold plainK at q; omega))), fun a ha => kk _ _ (Nat.le_of_ble_eq_true rfl) (sh_0_kept h (old ha (by show plainK 0 → False; intro q; unfold plainK at q; omega))), fun a ha => kk _ _ (Nat.le_of_ble_eq_true rfl) (sh_0_thought h (old ha (by show plainK 0 → False; intro q; unfold plainK at q; omega))), fun a ha => kk _ _ (Nat.le_of_ble_eq_true rfl) (sh_0_back h (old ha (by show plainK 0 → False; intro q; unfold plainK at q; omega))), fun a ha => kk _ _ (Nat.le_of_ble_eq_true rfl) (sh_0_costTo h (old ha (by show plainK 0 → False; intro q; unfold plainK at q; omega))), fun a ha => kk _ _ (Nat.le_of_ble_eq_true rfl) (sh_0_leastOf h (old ha (by show plainK 0 → False; intro q; unfold plainK at q; omega))), fun a ha => kk _ _ (Nat.le_of_ble_eq_true rfl) (sh_0_pansFor h (old ha (by show plainK 0 → False; intro q; unfold plainK at q; omega))), fun a ha => kk _ _ (Nat.le_of_ble_eq_true rfl) (sh_0_stoodOn h (old ha (by show plainK 0 → False; intro q; unfold plainK at q; omega))), fun a ha => kk _ _ (Nat.le_of_ble_eq_true rfl) (sh_0_order h (old ha (by show plainK 0 → False; intro q; unfold plainK at q; omega))), fun a ha => kk _ _ (Nat.le_of_ble_eq_true rfl) (sh_0_bestOrder h (old ha (by show plainK 0 → False; intro q; unfold plainK at q; omega))), fun a ha => kk _ _ (Nat.le_of_ble_eq_true rfl) (sh_0_waysTo h (old ha (by show plainK 0 → False; intro q; unfold plainK at q; omega))), fun a ha => kk _ _ (Nat.le_of_ble_eq_true rfl) (sh_0_isLost h (old ha (by show plainK 0 → False; intro q; unfold plainK at q; omega))), fun a ha => kk _ _ (Nat.le_of_ble_eq_true rfl) (sh_1_house h (old ha (by show plainK 1 → False; intro q; unfold plainK at q; omega))), fun a ha => kk _ _ (Nat.le_of_ble_eq_true rfl) (sh_1_book h (old ha (by show plainK 1 → False; intro q; unfold plainK at q; omega))), fun a ha => kk _ _ (Nat.le_of_ble_eq_true rfl) (sh_1_pieces h (old ha (by show plainK 1 → False; intro q; unfold plainK at q; omega))), fun a ha => kk _ _ (Nat.le_of_ble_eq_true rfl) (sh_1_doughs h (old ha (by show plainK 1 → False; intro q; unfold plainK at q; omega))), fun a ha => kk _ _ (Nat.le_of_ble_eq_true rfl) (sh_1_marks h (old ha (by show plainK 1 → False; intro q; unfold plainK at q; omega))), fun a ha => kk _ _ (Nat.le_of_ble_eq_true rfl) (sh_1_bites h (old ha (by show plainK 1 → False; intro q; unfold plainK at q; omega))), fun a ha => kk _ _ (Nat.le_of_ble_eq_true rfl) (sh_1_crumbs h (old ha (by show plainK 1 → False; intro q; unfold plainK at q; omega))), fun a ha => kk _ _ (Nat.le_of_ble_eq_true rfl) (sh_1_loaves h (old ha (by show plainK 1 → False; intro q; unfold plainK at q; omega))), fun a ha => kk _ _ (Nat.le_of_ble_eq_true rfl) (sh_1_heirs h (old ha (by show plainK 1 → False; intro q; unfold plainK at q; omega))), fun a ha => kk _ _ (Nat.le_of_ble_eq_true rfl) (sh_1_members h (old ha (by show plainK 1 → False; intro q; unfold plainK at q; omega))), fun a len ha => kk _ _ (Nat.le_of_ble_eq_true rfl) (sh_2_row h (old ha (by show plainK 2 → False; intro q; exact q.2.2.1 rfl))), fun a ha => kk _ _ (Nat.le_of_ble_eq_true rfl) (sh_3_wall h (old ha (by show plainK 3 → False; intro q; unfold plainK at q; omega))), fun a ha => kk _ _ (Nat.le_of_ble_eq_true rfl) (sh_5_nextTo h (old ha (by show plainK 5 → False; intro q; unfold plainK at q; omega))), fun a len inn ha j hj => kk _ _ (Nat.le_of_ble_eq_true rfl) (sh_22 h (old ha (by show plainK 22 → False; intro q; unfold plainK at q; omega)) hj), fun a ha j hj => kk _ _ (Nat.le_of_ble_eq_true rfl) (sh_23 h (old ha (by show plainK 23 → False; intro q; unfold plainK at q; omega)) hj), fun a ha => kk _ _ (Nat.le_of_ble_eq_true rfl) (sh_5_this_0 h (old ha (by show plainK 5 → False; intro q; unfold plainK at q; omega)))⟩
  by_cases e : a = sz
  · subst e; exact hA
  · exact sh_xA h (by rwa [show upA kd sz t a = kd a from if_neg e] at ha)

/-- a range of addresses set -/
def upR {α : Type} (f : Nat → α) (a n : Nat) (x : α) : Nat → α := fun b => if a ≤ b ∧ b < a + n then x else f b
/-- the kinds after an array of arrays is made -/
def kdM (kd : Kd) (sz N M : Nat) : Kd := fun b => if b = sz then (22, N, M) else if sz ≤ b ∧ b < sz + (N + 1) then (20, M, 0) else kd b
def alM (z : Nat) (kd : Kd) (sz : Nat) (x y : Int32) : Option (Nat × Nat) := if x < 0 ∨ y < 0 ∨ 100000 ≤ x.toNatClampNeg ∨ 100000 ≤ y.toNatClampNeg ∨ ¬ (∀ j, j < x.toNatClampNeg + 1 → al z kd (sz + j) = some ()) then none else some (x.toNatClampNeg, y.toNatClampNeg)
theorem alM_some {z : Nat} {kd : Kd} {sz : Nat} {x y : Int32} {N M : Nat} (h : alM z kd sz x y = some (N, M)) : x = nI N ∧ y = nI M ∧ N < 100000 ∧ M < 100000 ∧ ∀ j, j < N + 1 → ¬ (kd (sz + j)).1 < 90 ∧ xA z (sz + j) := by
  unfold alM at h
  split at h
  · cases h
  · next hn =>
    cases h
    refine ⟨?_, ?_, ?_, ?_, fun j hj => ?_⟩
    · obtain ⟨j, hj, e⟩ := nI_of (fun h => hn (Or.inl h))
      subst e
      rw [nI_clamp hj]
    · obtain ⟨j, hj, e⟩ := nI_of (fun h => hn (Or.inr (Or.inl h)))
      subst e
      rw [nI_clamp hj]
    · exact Nat.not_le.mp fun h => hn (Or.inr (Or.inr (Or.inl h)))
    · exact Nat.not_le.mp fun h => hn (Or.inr (Or.inr (Or.inr (Or.inl h))))
    · refine al_some (u := ()) (Classical.byContradiction fun h => hn (Or.inr (Or.inr (Or.inr (Or.inr fun q => h (q j hj))))))
theorem kdM_keep {kd : Kd} {sz N M b : Nat} {kt : Nat × Nat × Nat} (hn : ∀ j, j < N + 1 → ¬ (kd (sz + j)).1 < 90) (h90 : kt.1 < 90) (hb : kd b = kt) : kdM kd sz N M b = kt := by
  have hne : ¬ (sz ≤ b ∧ b < sz + (N + 1)) := fun ⟨h1, h2⟩ => by
    have := hn (b - sz) (by omega)
    rw [show sz + (b - sz) = b by omega, hb] at this
    exact this h90
  unfold kdM
  rw [if_neg (fun e => hne ⟨by omega, by omega⟩), if_neg hne]
  exact hb

theorem Shp.newM {z : Nat} {kd : Kd} {sz N M : Nat} (h : Shp z kd) (hu : ∀ j, j < N + 1 → ¬ (kd (sz + j)).1 < 90 ∧ xA z (sz + j)) : Shp z (kdM kd sz N M) := by
  have hn : ∀ j, j < N + 1 → ¬ (kd (sz + j)).1 < 90 := fun j hj => (hu j hj).1
  have old : ∀ {a : Nat} {k : Nat × Nat × Nat}, kdM kd sz N M a = k → k.1 ≠ 20 → k.1 ≠ 22 → kd a = k := by
    intro a k e h20 h22
    unfold kdM at e
    split at e
    · subst e; exact absurd rfl h22
    · split at e
      · subst e; exact absurd rfl h20
      · exact e
  have kk : ∀ (b : Nat) (k : Nat × Nat × Nat), k.1 < 90 → kd b = k → kdM kd sz N M b = k := fun b k h9 hb => kdM_keep hn h9 hb
  have h22 : ∀ (a len inn : Nat), kdM kd sz N M a = (22, len, inn) → ∀ j, j < len → kdM kd sz N M (a + 1 + j) = (20, inn, 0) := by
    intro a len inn ha j hj
    by_cases e : a = sz
    · subst e
      rw [show kdM kd a N M a = (22, N, M) from if_pos rfl] at ha
      cases ha
      exact (if_neg (by omega)).trans (if_pos ⟨by omega, by omega⟩)
    · by_cases e2 : sz ≤ a ∧ a < sz + (N + 1)
      · rw [show kdM kd sz N M a = (20, M, 0) from (if_neg e).trans (if_pos e2)] at ha
        cases ha
      · rw [show kdM kd sz N M a = kd a from (if_neg e).trans (if_neg e2)] at ha
        exact kk _ _ (Nat.le_of_ble_eq_true rfl) (sh_22 h ha hj)
  refine ⟨fun a ha => ?_, fun a ha => kk _ _ (Nat.le_of_ble_eq_true rfl) (sh_0_tape h (old ha (by show (0 : Nat) ≠ 20; omega) (by show (0 : Nat) ≠ 22; omega))), fun a ha => kk _ _ (Nat.le_of_ble_eq_true rfl) (sh_0_borough h (old ha (by show (0 : Nat) ≠ 20; omega) (by show (0 : Nat) ≠ 22; omega))), fun a ha => kk _ _ (Nat.le_of_ble_eq_true rfl) (sh_0_kept h (old ha (by show (0 : Nat) ≠ 20; omega) (by show (0 : Nat) ≠ 22; omega))), fun a ha => kk _ _ (Nat.le_of_ble_eq_true rfl) (sh_0_thought h (old ha (by show (0 : Nat) ≠ 20; omega) (by show (0 : Nat) ≠ 22; omega))), fun a ha => kk _ _ (Nat.le_of_ble_eq_true rfl) (sh_0_back h (old ha (by show (0 : Nat) ≠ 20; omega) (by show (0 : Nat) ≠ 22; omega))), fun a ha => kk _ _ (Nat.le_of_ble_eq_true rfl) (sh_0_costTo h (old ha (by show (0 : Nat) ≠ 20; omega) (by show (0 : Nat) ≠ 22; omega))), fun a ha => kk _ _ (Nat.le_of_ble_eq_true rfl) (sh_0_leastOf h (old ha (by show (0 : Nat) ≠ 20; omega) (by show (0 : Nat) ≠ 22; omega))), fun a ha => kk _ _ (Nat.le_of_ble_eq_true rfl) (sh_0_pansFor h (old ha (by show (0 : Nat) ≠ 20; omega) (by show (0 : Nat) ≠ 22; omega))), fun a ha => kk _ _ (Nat.le_of_ble_eq_true rfl) (sh_0_stoodOn h (old ha (by show (0 : Nat) ≠ 20; omega) (by show (0 : Nat) ≠ 22; omega))), fun a ha => kk _ _ (Nat.le_of_ble_eq_true rfl) (sh_0_order h (old ha (by show (0 : Nat) ≠ 20; omega) (by show (0 : Nat) ≠ 22; omega))), fun a ha => kk _ _ (Nat.le_of_ble_eq_true rfl) (sh_0_bestOrder h (old ha (by show (0 : Nat) ≠ 20; omega) (by show (0 : Nat) ≠ 22; omega))), fun a ha => kk _ _ (Nat.le_of_ble_eq_true rfl) (sh_0_waysTo h (old ha (by show (0 : Nat) ≠ 20; omega) (by show (0 : Nat) ≠ 22; omega))), fun a ha => kk _ _ (Nat.le_of_ble_eq_true rfl) (sh_0_isLost h (old ha (by show (0 : Nat) ≠ 20; omega) (by show (0 : Nat) ≠ 22; omega))), fun a ha => kk _ _ (Nat.le_of_ble_eq_true rfl) (sh_1_house h (old ha (by show (1 : Nat) ≠ 20; omega) (by show (1 : Nat) ≠ 22; omega))), fun a ha => kk _ _ (Nat.le_of_ble_eq_true rfl) (sh_1_book h (old ha (by show (1 : Nat) ≠ 20; omega) (by show (1 : Nat) ≠ 22; omega))), fun a ha => kk _ _ (Nat.le_of_ble_eq_true rfl) (sh_1_pieces h (old ha (by show (1 : Nat) ≠ 20; omega) (by show (1 : Nat) ≠ 22; omega))), fun a ha => kk _ _ (Nat.le_of_ble_eq_true rfl) (sh_1_doughs h (old ha (by show (1 : Nat) ≠ 20; omega) (by show (1 : Nat) ≠ 22; omega))), fun a ha => kk _ _ (Nat.le_of_ble_eq_true rfl) (sh_1_marks h (old ha (by show (1 : Nat) ≠ 20; omega) (by show (1 : Nat) ≠ 22; omega))), fun a ha => kk _ _ (Nat.le_of_ble_eq_true rfl) (sh_1_bites h (old ha (by show (1 : Nat) ≠ 20; omega) (by show (1 : Nat) ≠ 22; omega))), fun a ha => kk _ _ (Nat.le_of_ble_eq_true rfl) (sh_1_crumbs h (old ha (by show (1 : Nat) ≠ 20; omega) (by show (1 : Nat) ≠ 22; omega))), fun a ha => kk _ _ (Nat.le_of_ble_eq_true rfl) (sh_1_loaves h (old ha (by show (1 : Nat) ≠ 20; omega) (by show (1 : Nat) ≠ 22; omega))), fun a ha => kk _ _ (Nat.le_of_ble_eq_true rfl) (sh_1_heirs h (old ha (by show (1 : Nat) ≠ 20; omega) (by show (1 : Nat) ≠ 22; omega))), fun a ha => kk _ _ (Nat.le_of_ble_eq_true rfl) (sh_1_members h (old ha (by show (1 : Nat) ≠ 20; omega) (by show (1 : Nat) ≠ 22; omega))), fun a len ha => kk _ _ (Nat.le_of_ble_eq_true rfl) (sh_2_row h (old ha (by show (2 : Nat) ≠ 20; omega) (by show (2 : Nat) ≠ 22; omega))), fun a ha => kk _ _ (Nat.le_of_ble_eq_true rfl) (sh_3_wall h (old ha (by show (3 : Nat) ≠ 20; omega) (by show (3 : Nat) ≠ 22; omega))), fun a ha => kk _ _ (Nat.le_of_ble_eq_true rfl) (sh_5_nextTo h (old ha (by show (5 : Nat) ≠ 20; omega) (by show (5 : Nat) ≠ 22; omega))), h22, fun a ha j hj => kk _ _ (Nat.le_of_ble_eq_true rfl) (sh_23 h (old ha (by show (23 : Nat) ≠ 20; omega) (by show (23 : Nat) ≠ 22; omega)) hj), fun a ha => kk _ _ (Nat.le_of_ble_eq_true rfl) (sh_5_this_0 h (old ha (by show (5 : Nat) ≠ 20; omega) (by show (5 : Nat) ≠ 22; omega)))⟩
  by_cases e2 : sz ≤ a ∧ a < sz + (N + 1)
  · have := (hu (a - sz) (by omega)).2
    rwa [show sz + (a - sz) = a by omega] at this
  · exact sh_xA h (by rwa [show kdM kd sz N M a = kd a from (if_neg (fun e => e2 ⟨by omega, by omega⟩)).trans (if_neg e2)] at ha)

/-- a new array's length, and room for it -/
def alA (z : Nat) (kd : Kd) (sz : Nat) (x : Int32) : Option Nat := if x < 0 ∨ 100000 ≤ x.toNatClampNeg then none else (al z kd sz).bind fun _ => some x.toNatClampNeg
theorem alA_some {z : Nat} {kd : Kd} {sz : Nat} {x : Int32} {len : Nat} (h : alA z kd sz x = some len) : x = nI len ∧ len < 100000 ∧ al z kd sz = some () := by
  unfold alA at h
  split at h
  · cases h
  · next hn =>
    obtain ⟨u, hu, hl⟩ := Option.bind_eq_some_iff.mp h
    cases hl
    obtain ⟨j, hj, e⟩ := nI_of (fun h => hn (Or.inl h))
    subst e
    rw [nI_clamp hj] at hn ⊢
    exact ⟨rfl, by omega, hu⟩
section GAL
variable {p : Program} {l : Launch} {e : Env} {fr lo : Nat} {s : State} {m : MethodId} {args : Array Value} {below : List Frame} {meth : Method} {c : Code} {nL : Nat} {c0 k0 : Nat × Nat} {D : va_G} {cs : Cs} {z sz : Nat} {kd : Kd} {O : Type} {pc : Nat} {ls : List (Nat × Value)} {st : List Value} {P : Ptr} {I : Mem} {σ : Ptr × Mem} {q : O → En} {o : Option O} {cc : ByteArray} {own : String}
/-- the heap grown by one cell -/
theorem x_push {H : Heap} {cell : Cell} {t : Nat × Nat × Nat} (hR : xRep D cs z sz kd (P, I) H) (hn : ¬ (kd sz).1 < 90) (hc : va_at D clX (sz, cellE cs z t sz (fun _ => none) (fun _ => 0)) (H.push cell)) : xRep D cs z (sz + 1) (upA kd sz t) (upA P sz (fun _ => none), upA I sz (fun _ => 0)) (H.push cell) := by
  refine ⟨by rw [Array.size_push, hR.1], fun a ha => ?_⟩
  by_cases h : a = sz
  · subst h
    show va_at D clX (a, cellE cs z (upA kd a t a) a (upA P a (fun _ => none) a) (upA I a (fun _ => 0) a)) _
    rw [show upA kd a t a = t from if_pos rfl, show upA P a (fun _ => none) a = (fun _ => none) from if_pos rfl, show upA I a (fun _ => 0) a = (fun _ => 0) from if_pos rfl]
    exact hc
  · have ha' : (kd a).1 < 90 := by
      have := ha
      rwa [show upA kd sz t a = kd a from if_neg h] at this
    have hat := hR.2 a ha'
    show va_at D clX (a, cellE cs z (upA kd sz t a) a (upA P sz (fun _ => none) a) (upA I sz (fun _ => 0) a)) _
    rw [show upA kd sz t a = kd a from if_neg h, show upA P sz (fun _ => none) a = P a from if_neg h, show upA I sz (fun _ => 0) a = I a from if_neg h]
    refine hat.kept ?_
    have hlt : a < H.size := hat.lt
    show (H.push cell)[a]? = H[a]?
    rw [Array.getElem?_push_lt hlt, Array.getElem?_eq_getElem hlt]
theorem xS_push {H : Heap} {locs : List Loc} {cell : Cell} {A : Nat → Prop} {H0 : Heap} (hS : va_S A H0 H locs) : va_S A H0 (H.push cell) locs := by
  refine ⟨Nat.le_trans hS.1 (by rw [Array.size_push]; omega), fun q hq hA => ?_, hS.2.2⟩
  have hlt : q < H.size := Nat.lt_of_lt_of_le hq hS.1
  rw [Array.getElem?_push_lt hlt, ← Array.getElem?_eq_getElem hlt]
  exact hS.2.1 q hq hA
theorem ga_new (K : CallFix p m c cc nL s args lw_all own) (hK : xK D cs z s) (hsh : Shp z kd) {sl : Nat} {C : String} {T : u_T} {N ci index : Nat} (t : Nat × Nat × Nat) {kk : Unit → Option O} (n : Nat) (hin : ∀ w ∈ u_ws C T N, w ∈ lw_all) (ty0 : Nat → FieldType) (hty : ∀ k, k < N → parseFieldDescriptor (T k).2.2.1 = some (ty0 k)) (hlink : Cond.classLink own index C ∈ lw_all) (hins : Cond.instantiable C N ∈ lw_all) (hini : Cond.initialized C ∈ lw_all) (hc : clX[ci]? = some (C, T, N)) {fs : List Value} (he : ∀ a, cellE cs z t a (fun _ => none) (fun _ => 0) = .inr (ci, fs)) (hfs : ∀ k, k < N → defaultValue (ty0 k) = vp_V fs k) (hpl : plainK t.1)
    (hd : decode cc pc = .ok (.new index, 3)) (hn : pc + 3 = n) (g : ¬ (kd sz).1 < 90 → Shp z (upA kd sz t) → Gx p l e fr lo s m args below meth c nL c0 (sz + 1, sl + N) D cs z (sz + 1) (upA kd sz t) n ls (.ref sz :: st) (upA P sz (fun _ => none), upA I sz (fun _ => 0)) q (kk ())) : Gx p l e fr lo s m args below meth c nL c0 (sz, sl) D cs z (sz) (kd) pc ls st (P, I) q ((al z kd sz).bind kk) := by
  subst hn
  intro out ho h1 h2
  obtain ⟨u, hu, hk⟩ := Option.bind_eq_some_iff.mp ho
  obtain ⟨hfree, hxA⟩ := al_some hu
  have g' := g hfree (Shp.new hsh hfree hxA hpl) out hk (Nat.le_succ_of_le h1) (Nat.le_trans h2 (Nat.le_add_right _ _))
  have m1 : sz + 1 ≤ (q out).1.1 := g'.1.1
  have m2 : sl + N ≤ (q out).1.2 := g'.1.2
  have h1' : c0.1 ≤ sz := h1
  have h2' : c0.2 ≤ sl := h2
  refine ⟨⟨by show sz ≤ _; omega, by show sl ≤ _; omega⟩, fun H locs la hR hS hl => ?_⟩
  refine W.newc K.1 K.2.1 K.2.2.2.1 (K.2.2.2.2 _ hlink) (K.2.2.2.2 _ hins) (K.2.2.2.2 _ hini) rfl hd (by show sz - c0.1 + 1 ≤ (q out).1.1 - c0.1; omega) (by show sl - c0.2 + N ≤ (q out).1.2 - c0.2; omega) (fun cC kC f1 f2 f3 f4 => ?_)
  have hKn := hK.1.1 ci _ hc
  have hcC : cC = D.1 ci := Option.some.inj (f1.symm.trans hKn.2.1)
  subst hcC
  have hsz : H.size = sz := hR.1
  have hat : va_at D clX (sz, cellE cs z t sz (fun _ => none) (fun _ => 0)) (H.push { cls := D.1 ci, slots := kC.instanceTypes.map defaultValue, vm := .none }) := by
    rw [he sz]
    refine ⟨_, hc, ?_⟩
    have hb := u_born (H := H.push { cls := D.1 ci, slots := kC.instanceTypes.map defaultValue, vm := .none }) (o := sz) ty0 K.2.2.2.2 hin hKn f2 (by rw [← hsz, Array.getElem?_push_size]; rfl) hty
    exact hb.to hfs
  have w := g'.2 _ locs la (x_push hR hfree hat) (xS_push hS) hl
  rw [show H.size = sz from hsz]
  have e1 : (sz + 1) - c0.1 = sz - c0.1 + 1 := by omega
  have e2 : (sl + N) - c0.2 = sl - c0.2 + N := by omega
  have w' := w
  dsimp only at w'
  rw [e1, e2] at w'
  exact w'
theorem ga_newi (K : CallFix p m c cc nL s args lw_all own) (hK : xK D cs z s) (hsh : Shp z kd) {sl : Nat} {x : Int32} {kk : Nat → Option O} (n : Nat) (hd : decode cc pc = .ok (.newarray .int, 2)) (hn : pc + 2 = n) (harr : Cond.arrayClass .int ∈ lw_all) (g : ∀ len, x = nI len → ¬ (kd sz).1 < 90 → Shp z (upA kd sz (20, len, 0)) → Gx p l e fr lo s m args below meth c nL c0 (sz + 1, sl + len) D cs z (sz + 1) (upA kd sz (20, len, 0)) n ls (.ref sz :: st) (upA P sz (fun _ => none), upA I sz (fun _ => 0)) q (kk len)) : Gx p l e fr lo s m args below meth c nL c0 (sz, sl) D cs z (sz) (kd) pc ls (.int x :: st) (P, I) q ((alA z kd sz x).bind kk) := by
  subst hn
  intro out ho h1 h2
  obtain ⟨len, hlen, hk⟩ := Option.bind_eq_some_iff.mp ho
  obtain ⟨hx, hb, hu⟩ := alA_some hlen
  obtain ⟨hfree, hxA⟩ := al_some hu
  have g' := g len hx hfree (Shp.new hsh hfree hxA (by show plainK 20; unfold plainK; omega)) out hk (Nat.le_succ_of_le h1) (Nat.le_trans h2 (Nat.le_add_right _ _))
  have m1 : sz + 1 ≤ (q out).1.1 := g'.1.1
  have m2 : sl + len ≤ (q out).1.2 := g'.1.2
  have h1' : c0.1 ≤ sz := h1
  have h2' : c0.2 ≤ sl := h2
  refine ⟨⟨by show sz ≤ _; omega, by show sl ≤ _; omega⟩, fun H locs la hR hS hl => ?_⟩
  have hcl : x.toNatClampNeg = len := by rw [hx]; exact nI_clamp (by omega)
  have hx0 : ¬ x < 0 := by rw [hx]; exact nI_pos (by omega)
  refine W.newa (atype := .int) K.1 K.2.1 (K.2.2.2.2 _ harr) rfl hd rfl hx0 (by rw [hcl]; show len * 4 ≤ _; omega) (by show sz - c0.1 + 1 ≤ (q out).1.1 - c0.1; omega) (by rw [hcl]; show sl - c0.2 + len ≤ (q out).1.2 - c0.2; omega) (fun cA kA comp f1 f2 f3 => ?_)
  have hsz : H.size = sz := hR.1
  have hcA : cA = cs 0 := Option.some.inj (f1.symm.trans (hK.1.2 0 _ rfl).2)
  subst hcA
  have hat : va_at D clX (sz, cellE cs z (20, len, 0) sz (fun _ => none) (fun _ => 0)) (H.push { cls := cs 0, slots := Array.replicate x.toNatClampNeg (defaultValue (newarray.typeOf .int)), vm := .none }) := by
    show (H.push _)[sz]? = some (arrV (cs 0) len (fun _ => .int 0))
    rw [← hsz, Array.getElem?_push_size, hcl, ← arrV_new]
    rfl
  have w := g'.2 _ locs la (x_push hR hfree hat) (xS_push hS) hl
  rw [show H.size = sz from hsz]
  have e1 : (sz + 1) - c0.1 = sz - c0.1 + 1 := by omega
  have e2 : (sl + len) - c0.2 = sl - c0.2 + x.toNatClampNeg := by rw [hcl]; omega
  have w' := w
  dsimp only at w'
  rw [e1, e2] at w'
  exact w'
theorem ga_newb (K : CallFix p m c cc nL s args lw_all own) (hK : xK D cs z s) (hsh : Shp z kd) {sl : Nat} {x : Int32} {kk : Nat → Option O} (n : Nat) (hd : decode cc pc = .ok (.newarray .byte, 2)) (hn : pc + 2 = n) (harr : Cond.arrayClass .byte ∈ lw_all) (g : ∀ len, x = nI len → ¬ (kd sz).1 < 90 → Shp z (upA kd sz (21, len, 0)) → Gx p l e fr lo s m args below meth c nL c0 (sz + 1, sl + len) D cs z (sz + 1) (upA kd sz (21, len, 0)) n ls (.ref sz :: st) (upA P sz (fun _ => none), upA I sz (fun _ => 0)) q (kk len)) : Gx p l e fr lo s m args below meth c nL c0 (sz, sl) D cs z (sz) (kd) pc ls (.int x :: st) (P, I) q ((alA z kd sz x).bind kk) := by
  subst hn
  intro out ho h1 h2
  obtain ⟨len, hlen, hk⟩ := Option.bind_eq_some_iff.mp ho
  obtain ⟨hx, hb, hu⟩ := alA_some hlen
  obtain ⟨hfree, hxA⟩ := al_some hu
  have g' := g len hx hfree (Shp.new hsh hfree hxA (by show plainK 21; unfold plainK; omega)) out hk (Nat.le_succ_of_le h1) (Nat.le_trans h2 (Nat.le_add_right _ _))
  have m1 : sz + 1 ≤ (q out).1.1 := g'.1.1
  have m2 : sl + len ≤ (q out).1.2 := g'.1.2
  have h1' : c0.1 ≤ sz := h1
  have h2' : c0.2 ≤ sl := h2
  refine ⟨⟨by show sz ≤ _; omega, by show sl ≤ _; omega⟩, fun H locs la hR hS hl => ?_⟩
  have hcl : x.toNatClampNeg = len := by rw [hx]; exact nI_clamp (by omega)
  have hx0 : ¬ x < 0 := by rw [hx]; exact nI_pos (by omega)
  refine W.newa (atype := .byte) K.1 K.2.1 (K.2.2.2.2 _ harr) rfl hd rfl hx0 (by rw [hcl]; show len * 1 ≤ _; omega) (by show sz - c0.1 + 1 ≤ (q out).1.1 - c0.1; omega) (by rw [hcl]; show sl - c0.2 + len ≤ (q out).1.2 - c0.2; omega) (fun cA kA comp f1 f2 f3 => ?_)
  have hsz : H.size = sz := hR.1
  have hcA : cA = cs 1 := Option.some.inj (f1.symm.trans (hK.1.2 1 _ rfl).2)
  subst hcA
  have hat : va_at D clX (sz, cellE cs z (21, len, 0) sz (fun _ => none) (fun _ => 0)) (H.push { cls := cs 1, slots := Array.replicate x.toNatClampNeg (defaultValue (newarray.typeOf .byte)), vm := .none }) := by
    show (H.push _)[sz]? = some (arrV (cs 1) len (fun _ => .int 0))
    rw [← hsz, Array.getElem?_push_size, hcl, ← arrV_new]
    rfl
  have w := g'.2 _ locs la (x_push hR hfree hat) (xS_push hS) hl
  rw [show H.size = sz from hsz]
  have e1 : (sz + 1) - c0.1 = sz - c0.1 + 1 := by omega
  have e2 : (sl + len) - c0.2 = sl - c0.2 + x.toNatClampNeg := by rw [hcl]; omega
  have w' := w
  dsimp only at w'
  rw [e1, e2] at w'
  exact w'
theorem ga_newo (K : CallFix p m c cc nL s args lw_all own) (hK : xK D cs z s) (hsh : Shp z kd) {sl : Nat} {x : Int32} {C : String} {index ci t0 k : Nat} {kk : Nat → Option O} (n : Nat) (hd : decode cc pc = .ok (.anewarray index, 3)) (hn : pc + 3 = n) (hlink : Cond.classLink own index C ∈ lw_all) (hov : FieldType.object C ∈ aoL) (ht : (xtys cs)[t0]? = some (cs ci, .object C)) (he : ∀ len a, cellE cs z (k, len, 0) a (fun _ => none) (fun _ => 0) = .inl (cs ci, len, .inr (.inr (.inr (.inr (fun _ => none)))))) (hpl : plainK k) (g : ∀ len, x = nI len → ¬ (kd sz).1 < 90 → Shp z (upA kd sz (k, len, 0)) → Gx p l e fr lo s m args below meth c nL c0 (sz + 1, sl + len) D cs z (sz + 1) (upA kd sz (k, len, 0)) n ls (.ref sz :: st) (upA P sz (fun _ => none), upA I sz (fun _ => 0)) q (kk len)) : Gx p l e fr lo s m args below meth c nL c0 (sz, sl) D cs z (sz) (kd) pc ls (.int x :: st) (P, I) q ((alA z kd sz x).bind kk) := by
  subst hn
  intro out ho h1 h2
  obtain ⟨len, hlen, hk⟩ := Option.bind_eq_some_iff.mp ho
  obtain ⟨hx, hb, hu⟩ := alA_some hlen
  obtain ⟨hfree, hxA⟩ := al_some hu
  have g' := g len hx hfree (Shp.new hsh hfree hxA hpl) out hk (Nat.le_succ_of_le h1) (Nat.le_trans h2 (Nat.le_add_right _ _))
  have m1 : sz + 1 ≤ (q out).1.1 := g'.1.1
  have m2 : sl + len ≤ (q out).1.2 := g'.1.2
  have h1' : c0.1 ≤ sz := h1
  have h2' : c0.2 ≤ sl := h2
  refine ⟨⟨by show sz ≤ _; omega, by show sl ≤ _; omega⟩, fun H locs la hR hS hl => ?_⟩
  have hcl : x.toNatClampNeg = len := by rw [hx]; exact nI_clamp (by omega)
  have hx0 : ¬ x < 0 := by rw [hx]; exact nI_pos (by omega)
  refine W.anew K.1 K.2.1 K.2.2.2.1 (K.2.2.2.2 _ hlink) (va_AO.use (hK.2.2.2.2.2.2.2.2.2.2.2.2.2.2 _ hov)) rfl hd rfl hx0 (by rw [hcl]; omega) (by show sz - c0.1 + 1 ≤ (q out).1.1 - c0.1; omega) (by rw [hcl]; show sl - c0.2 + len ≤ (q out).1.2 - c0.2; omega) (fun cA kA comp f1 f2 f3 f4 => ?_)
  have hsz : H.size = sz := hR.1
  obtain ⟨kA', comp', -, -, -, r4⟩ := (hK.1.2 t0 _ ht).2
  have hcA : cA = cs ci := Option.some.inj (f1.symm.trans r4)
  subst hcA
  have hat : va_at D clX (sz, cellE cs z (k, len, 0) sz (fun _ => none) (fun _ => 0)) (H.push { cls := cs ci, slots := Array.replicate x.toNatClampNeg .null, vm := .none }) := by
    rw [he]
    show (H.push _)[sz]? = some (vp_cell _ _)
    rw [vp_cell_q, ← hsz, Array.getElem?_push_size, hcl, ← arrV_new]
    rfl
  have w := g'.2 _ locs la (x_push hR hfree hat) (xS_push hS) hl
  rw [show H.size = sz from hsz]
  have e1 : (sz + 1) - c0.1 = sz - c0.1 + 1 := by omega
  have e2 : (sl + len) - c0.2 = sl - c0.2 + x.toNatClampNeg := by rw [hcl]; omega
  have w' := w
  dsimp only at w'
  rw [e1, e2] at w'
  exact w'
theorem outerC_eq (cA : ClassId) (N h0 : Nat) : ∀ i, ∃ sl, Jvm.Free.Multi.outerC cA N h0 i = { cls := cA, slots := sl, vm := .none }
  | 0 => ⟨_, rfl⟩
  | i + 1 => by
    obtain ⟨sl, h⟩ := outerC_eq cA N h0 i
    exact ⟨_, by show Cell.setSlot _ _ _ = _; rw [h]; rfl⟩
/-- two arrays in one: the outer one at the heap's end, its rows after it -/
theorem w_multi {R : Room} {H : Heap} {locs : List Loc} {cells slots : Nat} {Q : State → Prop} (hexec : p.tables.exec = Jvm.exec) (hb : c.code = cc) {index : Nat} (hown : s.vm.findClass own = some m.cls) (hclink : (Cond.classLink own index "[[I").before args s = true) (hover : (Cond.arrayOver (.array .int)).before args s = true) (harr : (Cond.arrayClass .int).before args s = true)
    {g : JFrame} (hg : g.method = m) (hdg : decode cc g.pc = .ok (.multianewarray index 2, 4)) {x y : Int32} {rest : List Value} (hstack : g.stack = .int y :: .int x :: rest) {N M : Nat} (hx : ¬ x < 0) (hy : ¬ y < 0) (hN : x.toNatClampNeg = N) (hM : y.toNatClampNeg = M) (hN1 : N < 100000) (hM1 : M < 100000) (hcells : cells + (1 + N) ≤ R.cells) (hslots : slots + (N + N * M) ≤ R.slots)
    (kk : ∀ (H1 : Heap) (cA comp : ClassId), s.vm.findClass "[[I" = some cA → s.vm.findClass "[I" = some comp → H1.size = H.size + 1 + N → (∀ a : Nat, a < H.size → H1[a]? = H[a]?) → H1[H.size]? = some (arrV cA N fun j => .ref (H.size + 1 + j)) → (∀ j, j < N → H1[H.size + 1 + j]? = some (arrV comp M fun _ => .int 0)) →
      W p l e R s m args below meth c H1 locs (cells + 1 + N) (slots + N + N * M) Q { g with pc := g.pc + 4, stack := .ref H.size :: rest }) : W p l e R s m args below meth c H locs cells slots Q g := by
  intro T hT X
  subst hT; subst hb; subst hN; subst hM
  obtain ⟨vm₁, cA, comp, hW, hfA, hfC, hO, hI, X1, st⟩ := X.multianewarray2F hexec (ty := .int) hown hclink hover harr hg hdg hstack hx hy (by omega) (by show _ * 4 ≤ _; omega) (by omega) rfl rfl hcells hslots
  have hh : (T.setVm vm₁).heap = T.heap := rfl
  have ff := Jvm.Free.Multi.fill_facts (T.setVm vm₁) cA comp x.toNatClampNeg y.toNatClampNeg (defaultValue .int) x.toNatClampNeg
  have fo := fun (a : Addr) ha => Jvm.Free.Multi.fill_old (T.setVm vm₁) cA comp x.toNatClampNeg y.toNatClampNeg (defaultValue .int) (a := a) ha x.toNatClampNeg
  have fi := Jvm.Free.Multi.fill_inner (T.setVm vm₁) cA comp x.toNatClampNeg y.toNatClampNeg (defaultValue .int) x.toNatClampNeg
  rw [hh] at ff fo fi
  have oe : Jvm.Free.Multi.outerC cA x.toNatClampNeg T.heap.size x.toNatClampNeg = arrV cA x.toNatClampNeg fun j => .ref (T.heap.size + 1 + j) := by
    obtain ⟨o1, o2, o3⟩ := Jvm.Free.Multi.outerC_facts cA x.toNatClampNeg T.heap.size x.toNatClampNeg
    have os := Jvm.Free.Multi.outerC_slot cA x.toNatClampNeg T.heap.size x.toNatClampNeg
    have oe := outerC_eq cA x.toNatClampNeg T.heap.size x.toNatClampNeg
    revert o1 o2 o3 os oe
    generalize Jvm.Free.Multi.outerC cA x.toNatClampNeg T.heap.size x.toNatClampNeg = oc
    intro o1 o2 o3 os oe
    obtain ⟨sl, hoc⟩ := oe
    subst hoc
    dsimp only at o3 os
    unfold arrV
    congr 1
    apply Array.ext
    · rw [o3, Array.size_ofFn]
    · intro i h1 h2
      have hi : i < x.toNatClampNeg := by rw [← o3]; exact h1
      have := os i hi
      rw [if_pos hi, Array.getElem?_eq_getElem h1] at this
      rw [Option.some.inj this, Array.getElem_ofFn]
  obtain ⟨t, a1, b1⟩ := kk _ cA comp hfA hfC ff.1 (fun a ha => fo a ha) (by rw [ff.2.1, oe]) (fun j hj => by rw [fi j hj, ← arrV_new]; rfl) _ rfl X1
  exact ⟨t, st t a1, b1⟩
theorem ga_multi (K : CallFix p m c cc nL s args lw_all own) (hK : xK D cs z s) (hsh : Shp z kd) {sl : Nat} {x y : Int32} {index : Nat} {kk : Nat × Nat → Option O} (n : Nat) (hd : decode cc pc = .ok (.multianewarray index 2, 4)) (hn : pc + 4 = n) (hlink : Cond.classLink own index "[[I" ∈ lw_all) (harr : Cond.arrayClass .int ∈ lw_all) (g : ∀ N M, x = nI N → y = nI M → (∀ j, j < N + 1 → ¬ (kd (sz + j)).1 < 90) → Shp z (kdM kd sz N M) → Gx p l e fr lo s m args below meth c nL c0 (sz + 1 + N, sl + N + N * M) D cs z (sz + 1 + N) (kdM kd sz N M) n ls (.ref sz :: st) (upR P sz (N + 1) (fun _ => none), upR I sz (N + 1) (fun _ => 0)) q (kk (N, M))) : Gx p l e fr lo s m args below meth c nL c0 (sz, sl) D cs z (sz) (kd) pc ls (.int y :: .int x :: st) (P, I) q ((alM z kd sz x y).bind kk) := by
  subst hn
  intro out ho h1 h2
  obtain ⟨⟨N, M⟩, hlen, hk⟩ := Option.bind_eq_some_iff.mp ho
  obtain ⟨hx, hy, hN, hM, hu⟩ := alM_some hlen
  have hfree : ∀ j, j < N + 1 → ¬ (kd (sz + j)).1 < 90 := fun j hj => (hu j hj).1
  have g' := g N M hx hy hfree (Shp.newM hsh hu) out hk (by have : c0.1 ≤ sz := h1; show c0.1 ≤ sz + 1 + N; omega) (by have : c0.2 ≤ sl := h2; show c0.2 ≤ sl + N + N * M; omega)
  have m1 : sz + 1 + N ≤ (q out).1.1 := g'.1.1
  have m2 : sl + N + N * M ≤ (q out).1.2 := g'.1.2
  have h1' : c0.1 ≤ sz := h1
  have h2' : c0.2 ≤ sl := h2
  refine ⟨⟨by show sz ≤ _; omega, by show sl ≤ _; omega⟩, fun H locs la hR hS hl => ?_⟩
  have hcx : x.toNatClampNeg = N := by rw [hx]; exact nI_clamp (by omega)
  have hcy : y.toNatClampNeg = M := by rw [hy]; exact nI_clamp (by omega)
  have hx0 : ¬ x < 0 := by rw [hx]; exact nI_pos (by omega)
  have hy0 : ¬ y < 0 := by rw [hy]; exact nI_pos (by omega)
  have hsz : H.size = sz := hR.1
  refine w_multi K.1 K.2.1 K.2.2.2.1 (K.2.2.2.2 _ hlink) (hK.2.2.2.2.2.2.2.2.2.2.2.2.2.2 (.array .int) (by unfold aoL; simp)) (K.2.2.2.2 _ harr) rfl hd rfl hx0 hy0 hcx hcy hN hM (by show sz - c0.1 + (1 + N) ≤ (q out).1.1 - c0.1; omega) (by show sl - c0.2 + (N + N * M) ≤ (q out).1.2 - c0.2; omega) (fun H1 cA comp f1 f2 e1 e2 e3 e4 => ?_)
  have hcomp : comp = cs 0 := Option.some.inj (f2.symm.trans (hK.1.2 0 _ rfl).2)
  have hcA : cA = cs 2 := Option.some.inj (f1.symm.trans (hK.1.2 2 _ rfl).2)
  subst hcomp
  subst hcA
  rw [hsz] at e1 e2 e3 e4 ⊢
  have hR1 : xRep D cs z (sz + 1 + N) (kdM kd sz N M) (upR P sz (N + 1) (fun _ => none), upR I sz (N + 1) (fun _ => 0)) H1 := by
    refine ⟨e1, fun a ha => ?_⟩
    by_cases hin : sz ≤ a ∧ a < sz + (N + 1)
    · show va_at D clX (a, cellE cs z (kdM kd sz N M a) a (upR P sz (N + 1) (fun _ => none) a) (upR I sz (N + 1) (fun _ => 0) a)) _
      rw [show upR P sz (N + 1) (fun _ => none) a = (fun _ => none) from if_pos hin, show upR I sz (N + 1) (fun _ => 0) a = (fun _ => 0) from if_pos hin]
      by_cases h0 : a = sz
      · subst h0
        rw [show kdM kd a N M a = (22, N, M) from if_pos rfl]
        show H1[a]? = some (vp_cell _ _)
        rw [vp_cell_q, e3]
        rfl
      · rw [show kdM kd sz N M a = (20, M, 0) from (if_neg h0).trans (if_pos hin)]
        obtain ⟨j, rfl⟩ : ∃ j, a = sz + 1 + j := ⟨a - sz - 1, by omega⟩
        show H1[sz + 1 + j]? = some (arrV (cs 0) M (fun _ => .int 0))
        exact e4 j (by omega)
    · have h0 : a ≠ sz := fun e => hin ⟨by omega, by omega⟩
      have ek : kdM kd sz N M a = kd a := (if_neg h0).trans (if_neg hin)
      have hat := hR.2 a (by rw [← ek]; exact ha)
      show va_at D clX (a, cellE cs z (kdM kd sz N M a) a (upR P sz (N + 1) (fun _ => none) a) (upR I sz (N + 1) (fun _ => 0) a)) _
      rw [ek, show upR P sz (N + 1) (fun _ => none) a = P a from if_neg hin, show upR I sz (N + 1) (fun _ => 0) a = I a from if_neg hin]
      have hlt : a < H.size := hat.lt
      exact hat.kept (e2 a (by omega))
  have hS1 := (⟨Nat.le_trans hS.1 (by omega), fun q hq hA => (e2 q (by have := hS.1; omega)).trans (hS.2.1 q hq hA), hS.2.2⟩ : va_S _ _ H1 locs)
  have w := g'.2 H1 locs la hR1 hS1 hl
  have c1 : (sz + 1 + N) - c0.1 = sz - c0.1 + 1 + N := by omega
  have c2 : (sl + N + N * M) - c0.2 = sl - c0.2 + N + N * M := by omega
  have w' := w
  dsimp only at w'
  rw [c1, c2] at w'
  exact w'
end GAL

/-! ===== the state with its counters and kinds: for loops and joins where cells are made ===== -/
abbrev Sy : Type := Nat × Nat × Kd × Ptr × Mem
def yRep (D : va_G) (cs : Cs) (z : Nat) (σ : Sy) (H : Heap) : Prop := xRep D cs z σ.1 σ.2.2.1 σ.2.2.2 H
def ycnt (σ : Sy) : Nat × Nat := (σ.1, σ.2.1)
abbrev Gy (p : Program) (l : Launch) (e : Env) (fr lo : Nat) (s : State) (m : MethodId) (args : Array Value) (below : List Frame) (meth : Method) (c : Code) (nL : Nat) (c0 : Nat × Nat) (D : va_G) (cs : Cs) (z : Nat) {O : Type} (pc : Nat) (ls : List (Nat × Value)) (st : List Value) (σ : Sy) (q : O → En) (o : Option O) : Prop :=
  G p l e fr lo s m args below meth c nL c0 (yRep D cs z) ycnt (xA z) pc ls st σ q o
section GYS
variable {p : Program} {l : Launch} {e : Env} {fr lo : Nat} {s : State} {m : MethodId} {args : Array Value} {below : List Frame} {meth : Method} {c : Code} {nL : Nat} {c0 k0 : Nat × Nat} {D : va_G} {cs : Cs} {z sz : Nat} {kd : Kd} {O : Type} {pc : Nat} {ls : List (Nat × Value)} {st : List Value} {P : Ptr} {I : Mem} {σ : Ptr × Mem} {q : O → En} {o : Option O} {cc : ByteArray} {own : String}
theorem gy_of {sl : Nat} (g : Gx p l e fr lo s m args below meth c nL c0 (sz, sl) D cs z (sz) (kd) pc ls st (P, I) q o) : Gy p l e fr lo s m args below meth c nL c0 D cs z pc ls st (sz, sl, kd, P, I) q o := g
theorem gx_of {sl : Nat} (g : Gy p l e fr lo s m args below meth c nL c0 D cs z pc ls st (sz, sl, kd, P, I) q o) : Gx p l e fr lo s m args below meth c nL c0 (sz, sl) D cs z (sz) (kd) pc ls st (P, I) q o := g
end GYS
/-- a fact asked for -/
noncomputable def chk {R : Type} (a : Prop) (k : Option R) : Option R := @ite _ a (Classical.propDecidable a) k none
theorem chk_some {R : Type} {a : Prop} {k : Option R} {r : R} (h : chk a k = some r) : a ∧ k = some r := by
  unfold chk at h
  split at h
  · next ha => exact ⟨ha, h⟩
  · cases h
section GYC
variable {p : Program} {l : Launch} {e : Env} {fr lo : Nat} {s : State} {m : MethodId} {args : Array Value} {below : List Frame} {meth : Method} {c : Code} {nL : Nat} {c0 k0 : Nat × Nat} {D : va_G} {cs : Cs} {z sz : Nat} {kd : Kd} {O : Type} {pc : Nat} {ls : List (Nat × Value)} {st : List Value} {P : Ptr} {I : Mem} {σ : Ptr × Mem} {q : O → En} {o : Option O} {cc : ByteArray} {own : String}
theorem g_chk {S : Type} {Rep : S → Heap → Prop} {cnt : S → Nat × Nat} {A : Nat → Prop} {τ : S} {a : Prop} (g : a → G p l e fr lo s m args below meth c nL c0 Rep cnt A pc ls st τ q o) : G p l e fr lo s m args below meth c nL c0 Rep cnt A pc ls st τ q (chk a o) := by
  intro out ho h1 h2
  obtain ⟨ha, hk⟩ := chk_some ho
  exact g ha out hk h1 h2
end GYC

/-! ===== contracts of methods that make cells ===== -/
def yPre (D : va_G) (cs : Cs) (z : Nat) (σ : Sy) (U : State) : Prop := yRep D cs z σ U.heap ∧ xK D cs z U
def yPost (D : va_G) (cs : Cs) (z : Nat) (r : Option Value × Sy) : Array Value → State → Outcome → State → Prop := fun _ st oc t => (oc = .returned r.1 ∧ yRep D cs z r.2 t.heap) ∧ va_F (xA z) st t
def yq (D : va_G) (cs : Cs) (z : Nat) (c0 : Nat × Nat) (s : State) (args : Array Value) (below : List Frame) {O : Type} (fin : O → Option Value × Sy) : O → En := fun out => (((fin out).2.1, (fin out).2.2.1), MQ below (yPost D cs z (fin out)) args s ((fin out).2.1 - c0.1) ((fin out).2.2.1 - c0.2) (xA z))
def CtA (cs : Cs) (z : Nat) (y : MethodName) (cc : ByteArray) (nL : Nat) (ret : Option FieldType) (fr lo : Nat) (vals : List Value) (σ : Sy) {O : Type} (fin : O → Option Value × Sy) (o : Option O) : Prop :=
  ∀ (l : Launch) (D : va_G), l.stackTraces = false → Shp z σ.2.2.1 → ∀ out, o = some out → (σ.1 ≤ (fin out).2.1 ∧ σ.2.1 ≤ (fin out).2.2.1) ∧
    Met l y (ws_ y cc nL ret) ({ frames := fr, cells := (fin out).2.1 - σ.1, slots := (fin out).2.2.1 - σ.2.1, locals := lo }) (va_Pc vals (yPre D cs z σ)) (yPost D cs z (fin out)) ((fin out).2.1 - σ.1) ((fin out).2.2.1 - σ.2.1) (xA z)
theorem CtA.of {cs : Cs} {z : Nat} {y : MethodName} {cc : ByteArray} {nL : Nat} {ret : Option FieldType} {fr lo : Nat} {vals : List Value} {sz sl : Nat} {kd : Kd} {P : Ptr} {I : Mem} {O : Type} {fin : O → Option Value × Sy} {o : Option O} (own : String)
    (hy : plainName y.cls = true) (hyc : y.cls = own) (hlen : (lg_sl vals).length ≤ nL)
    (h : ∀ (l : Launch) (D : va_G) (p : Program) (e : Env) (s : State) (m : MethodId) (args : Array Value) (below : List Frame) (meth : Method) (c : Code), l.stackTraces = false → Shp z kd → CallFix p m c cc nL s args lw_all own → meth.sig.returnType = ret → meth.locks = false → meth.name = y.name → xK D cs z s →
      Gx p l e fr lo s m args below meth c nL (sz, sl) (sz, sl) D cs z sz kd 0 (lv_args 0 vals) [] (P, I) (yq D cs z (sz, sl) s args below fin) o) (hmono : ∀ out, o = some out → sz ≤ (fin out).2.1 ∧ sl ≤ (fin out).2.2.1) : CtA cs z y cc nL ret fr lo vals (sz, sl, kd, P, I) fin o := by
  intro l D hlt hsh out ho
  refine ⟨hmono out ho, Met.ofW (cc := cc) (maxL := nL) (ret := ret) hy rfl ?_⟩
  intro p e s m args below meth c s₁ B hml hv
  obtain ⟨rfl, hP, hK⟩ := hv
  have hts := atoms_spec (ws := ws_ y cc nL ret) B.pre
  have hts : ∀ w ∈ lw_all, w.before _ s = true := fun w h => hts w (List.mem_cons_of_mem _ h)
  have hown : s.vm.findClass own = some m.cls := by rw [← hyc]; exact findClass_of_methodNamed B.named
  have hl := lv_entry vals (n := nL) hlen
  rw [lg_entry_eq]
  have w := (h l D p e s m _ below meth c hlt hsh ⟨B.exec, B.bytes, hml, hown, hts⟩ B.returns B.notSynchronized (name_of_methodNamed B.named B.method).1 hK out ho (Nat.le_refl _) (Nat.le_refl _)).2 s.heap [] _ hP va_S.rf hl
  dsimp only at w
  rw [Nat.sub_self, Nat.sub_self] at w
  exact w
/-- the counters never fall: asked for at the method's end -/
def mo {O : Type} (sz sl : Nat) (fin : O → Option Value × Sy) (o : Option O) : Option O := o.bind fun r => if sz ≤ (fin r).2.1 ∧ sl ≤ (fin r).2.2.1 then some r else none
theorem mo_some {O : Type} {sz sl : Nat} {fin : O → Option Value × Sy} {o : Option O} {r : O} (h : mo sz sl fin o = some r) : o = some r ∧ sz ≤ (fin r).2.1 ∧ sl ≤ (fin r).2.2.1 := by
  unfold mo at h
  obtain ⟨r', h1, h2⟩ := Option.bind_eq_some_iff.mp h
  split at h2
  · next hm => cases h2; exact ⟨h1, hm⟩
  · cases h2
theorem CtA.ofM {cs : Cs} {z : Nat} {y : MethodName} {cc : ByteArray} {nL : Nat} {ret : Option FieldType} {fr lo : Nat} {vals : List Value} {sz sl : Nat} {kd : Kd} {P : Ptr} {I : Mem} {O : Type} {fin : O → Option Value × Sy} {o : Option O} (own : String)
    (hy : plainName y.cls = true) (hyc : y.cls = own) (hlen : (lg_sl vals).length ≤ nL)
    (h : ∀ (l : Launch) (D : va_G) (p : Program) (e : Env) (s : State) (m : MethodId) (args : Array Value) (below : List Frame) (meth : Method) (c : Code), l.stackTraces = false → Shp z kd → CallFix p m c cc nL s args lw_all own → meth.sig.returnType = ret → meth.locks = false → meth.name = y.name → xK D cs z s →
      Gx p l e fr lo s m args below meth c nL (sz, sl) (sz, sl) D cs z sz kd 0 (lv_args 0 vals) [] (P, I) (yq D cs z (sz, sl) s args below fin) o) : CtA cs z y cc nL ret fr lo vals (sz, sl, kd, P, I) fin (mo sz sl fin o) :=
  CtA.of own hy hyc hlen (fun l D p e s m args below meth c a0 a1 a2 a3 a4 a5 a6 out ho => h l D p e s m args below meth c a0 a1 a2 a3 a4 a5 a6 out (mo_some ho).1) (fun out ho => (mo_some ho).2)
section GAR
variable {p : Program} {l : Launch} {e : Env} {fr lo : Nat} {s : State} {m : MethodId} {args : Array Value} {below : List Frame} {meth : Method} {c : Code} {nL : Nat} {c0 k0 : Nat × Nat} {D : va_G} {cs : Cs} {z sz : Nat} {kd : Kd} {O : Type} {pc : Nat} {ls : List (Nat × Value)} {st : List Value} {P : Ptr} {I : Mem} {σ : Ptr × Mem} {q : O → En} {o : Option O} {cc : ByteArray} {own : String}
theorem ga_iret {sl : Nat} (K : CallFix p m c cc nL s args lw_all own) (hr : meth.sig.returnType = some .int) {v : Int32} (hlk : meth.locks = false) {r : O} {fin : O → Option Value × Sy} (hd : decode cc pc = .ok (.ireturn, 1)) (hfin : fin r = (some (.int v), (sz, sl, kd, P, I))) : Gx p l e fr lo s m args below meth c nL c0 (sz, sl) D cs z (sz) (kd) pc ls [.int v] (P, I) (yq D cs z c0 s args below fin) (some r) := by
  intro out ho h1 h2
  cases ho
  refine ⟨by unfold yq; rw [hfin]; exact ⟨Nat.le_refl _, Nat.le_refl _⟩, fun H locs la hR hS hl => ?_⟩
  unfold yq
  rw [hfin]
  exact W.iret K.1 K.2.1 hr (fun t ht hW => ⟨⟨rfl, by rw [ht]; exact hR⟩, hS.F ht⟩) hS.2.2 hd hlk
theorem ga_vret {sl : Nat} (K : CallFix p m c cc nL s args lw_all own) (hr : meth.sig.returnType = none) (hlk : meth.locks = false) {r : O} {fin : O → Option Value × Sy} (hd : decode cc pc = .ok (.return_, 1)) (hfin : fin r = (none, (sz, sl, kd, P, I))) : Gx p l e fr lo s m args below meth c nL c0 (sz, sl) D cs z (sz) (kd) pc ls [] (P, I) (yq D cs z c0 s args below fin) (some r) := by
  intro out ho h1 h2
  cases ho
  refine ⟨by unfold yq; rw [hfin]; exact ⟨Nat.le_refl _, Nat.le_refl _⟩, fun H locs la hR hS hl => ?_⟩
  unfold yq
  rw [hfin]
  exact W.vret K.1 K.2.1 hr (fun t ht hW => ⟨⟨rfl, by rw [ht]; exact hR⟩, hS.F ht⟩) hS.2.2 hd hlk
theorem ga_aret {sl : Nat} (K : CallFix p m c cc nL s args lw_all own) {nm : String} (hr : meth.sig.returnType = some (.object nm)) {v : Nat} (hlk : meth.locks = false) {r : O} {fin : O → Option Value × Sy} (hd : decode cc pc = .ok (.areturn, 1)) (hfin : fin r = (some (.ref v), (sz, sl, kd, P, I))) : Gx p l e fr lo s m args below meth c nL c0 (sz, sl) D cs z (sz) (kd) pc ls [.ref v] (P, I) (yq D cs z c0 s args below fin) (some r) := by
  intro out ho h1 h2
  cases ho
  refine ⟨by unfold yq; rw [hfin]; exact ⟨Nat.le_refl _, Nat.le_refl _⟩, fun H locs la hR hS hl => ?_⟩
  unfold yq
  rw [hfin]
  exact W.aret K.1 K.2.1 hr (Or.inl ⟨_, rfl⟩) (Or.inr ⟨_, rfl⟩) (fun t ht hW => ⟨⟨rfl, by rw [ht]; exact hR⟩, hS.F ht⟩) hS.2.2 hd hlk
/-- a call of a method that makes cells -/
theorem ga_callV (K : CallFix p m c cc nL s args lw_all own) (hK : xK D cs z s) (hsh : Shp z kd) (hlt : l.stackTraces = false) {sl : Nat} {y : MethodName} {bytes : ByteArray} {maxL index a ci : Nat} {C : String} {T : u_T} {N : Nat} {t : Nat × Nat × Nat} {fs : List Value} {ret : Option FieldType} {fr' lo' : Nat} {vals stk : List Value} {O' : Type} {fin' : O' → Option Value × Sy} {o' : Option O'} {kk : O' → Option O} (n : Nat) (hC : CtA cs z y bytes maxL ret fr' lo' (.ref a :: vals) (sz, sl, kd, P, I) fin' o') (hw : GoodIn lw_all (wsV own index C y (ws_ y bytes maxL ret)))
    (hdd : y.cls = C ∧ y.cls ≠ "java/lang/invoke/MethodHandle" ∧ y.cls ≠ "java/lang/invoke/VarHandle" ∧ (parseMethodDescriptor y.desc).map (fun d => d.parameters.length) = some vals.length) (hka : kd a = t) (he : cellE cs z t a (P a) (I a) = .inr (ci, fs)) (h90 : t.1 < 90) (hc : clX[ci]? = some (C, T, N)) (hroom : fr' + 1 ≤ fr ∧ 8 + (maxL + 11) + lo' ≤ lo) (hstk : stk = vals.reverse ++ .ref a :: st) (hcat : (st.map fun v => v.category).sum ≤ 8)
    (hd : decode cc pc = .ok (.invokevirtual index, 3)) (hn : pc + 3 = n) (g : ∀ r, o' = some r → Gx p l e fr lo s m args below meth c nL c0 ((fin' r).2.1, (fin' r).2.2.1) D cs z ((fin' r).2.1) ((fin' r).2.2.2.1) n ls ((fin' r).1.toList ++ st) (fin' r).2.2.2.2 q (kk r)) : Gx p l e fr lo s m args below meth c nL c0 (sz, sl) D cs z (sz) (kd) pc ls stk (P, I) q (o'.bind kk) := by
  subst hn
  subst hstk
  intro out ho h1 h2
  obtain ⟨r, hr, hk⟩ := Option.bind_eq_some_iff.mp ho
  obtain ⟨⟨mm1, mm2⟩, hMet⟩ := hC l D hlt hsh r hr
  have mm1 : sz ≤ (fin' r).2.1 := mm1
  have mm2 : sl ≤ (fin' r).2.2.1 := mm2
  have h1' : c0.1 ≤ sz := h1
  have h2' : c0.2 ≤ sl := h2
  have g' := g r hr out hk (Nat.le_trans h1' mm1) (Nat.le_trans h2' mm2)
  have n1 : (fin' r).2.1 ≤ (q out).1.1 := g'.1.1
  have n2 : (fin' r).2.2.1 ≤ (q out).1.2 := g'.1.2
  refine ⟨⟨Nat.le_trans mm1 n1, Nat.le_trans mm2 n2⟩, fun H locs la hR hS hl => ?_⟩
  have hat := hR.2 a (by rw [hka]; exact h90)
  rw [hka, he] at hat
  have hP : va_P D clX [(a, .inr (ci, fs))] H := fun k q hk => by
    cases k with
    | zero => cases hk; exact hat
    | succ k => simp at hk
  intro T0 hT X
  obtain ⟨v, st₀, t, T', L, h0, X', hL, e1, e2, ⟨⟨hv, hP1⟩, hF⟩, stp⟩ := va_runV (As := vals) (rest := st) K hMet (cwV vals.length K.2.2.2.2 hw rfl rfl rfl hdd hroom) ⟨fun a U g mk q => by obtain ⟨q0, q1, q2⟩ := q; exact ⟨q0, q1, xK.same rfl rfl q2⟩, va_recv hK.1 hP (ci := ci) (q0 := 0) hc rfl, fun U hU hW => ⟨rfl, by rw [hU]; exact hR, xK.warm hW hS hU hK⟩⟩ rfl rfl hl.1 rfl (lv_room hcat) hd ⟨by show sz - c0.1 + ((fin' r).2.1 - sz) ≤ (q out).1.1 - c0.1; omega, by show sl - c0.2 + ((fin' r).2.2.1 - sl) ≤ (q out).1.2 - c0.2; omega⟩ T0 hT X
  cases hv
  have hz : H.size ≤ t.heap.size := by rw [← h0]; exact hF.1
  have hS1 : va_S (xA z) s.heap T'.heap (locs ++ L) := by
    refine ⟨by rw [e1]; exact Nat.le_trans hS.1 hz, fun x hx hxA => ?_, fun z hzz => ?_⟩
    · rw [e1, hF.2 x (by rw [h0]; exact Nat.lt_of_lt_of_le hx hS.1) hxA, h0]
      exact hS.2.1 x hx hxA
    · rcases List.mem_append.mp hzz with h | h
      · exact hS.2.2 z h
      · exact hL z h
  have c1 : sz - c0.1 + ((fin' r).2.1 - sz) = (fin' r).2.1 - c0.1 := by omega
  have c2 : sl - c0.2 + ((fin' r).2.2.1 - sl) = (fin' r).2.2.1 - c0.2 := by omega
  dsimp only at X'
  rw [c1, c2] at X'
  obtain ⟨t2, a1, b1⟩ := g'.2 T'.heap (locs ++ L) la (by rw [e1]; exact hP1) hS1 hl T' rfl X'
  exact ⟨t2, stp t2 a1, b1⟩
/-- a constructor -/
theorem ga_callI (K : CallFix p m c cc nL s args lw_all own) (hK : xK D cs z s) (hsh : Shp z kd) (hlt : l.stackTraces = false) {sl : Nat} {y : MethodName} {bytes : ByteArray} {maxL index a : Nat} {fr' lo' : Nat} {vals stk : List Value} {O' : Type} {fin' : O' → Option Value × Sy} {o' : Option O'} {kk : O' → Option O} (n : Nat) (hC : CtA cs z y bytes maxL none fr' lo' (.ref a :: vals) (sz, sl, kd, P, I) fin' o') (hw : GoodIn lw_all (ws_ y bytes maxL none)) (hini : Cond.initialized y.cls ∈ lw_all) (hlink : Cond.methodLink own index y ∈ lw_all) (hins : Cond.instanceMethod y ∈ lw_all) (hy1 : y.name = "<init>")
    (hdd : y.cls ≠ "java/lang/invoke/MethodHandle" ∧ y.cls ≠ "java/lang/invoke/VarHandle" ∧ (parseMethodDescriptor y.desc).map (fun d => d.parameters.length) = some vals.length) (hroom : fr' + 1 ≤ fr ∧ 8 + (maxL + 11) + lo' ≤ lo) (hstk : stk = vals.reverse ++ .ref a :: st) (hcat : (st.map fun v => v.category).sum ≤ 8)
    (hd : decode cc pc = .ok (.invokespecial index, 3)) (hn : pc + 3 = n) (g : ∀ r, o' = some r → Gx p l e fr lo s m args below meth c nL c0 ((fin' r).2.1, (fin' r).2.2.1) D cs z ((fin' r).2.1) ((fin' r).2.2.2.1) n ls ((fin' r).1.toList ++ st) (fin' r).2.2.2.2 q (kk r)) : Gx p l e fr lo s m args below meth c nL c0 (sz, sl) D cs z (sz) (kd) pc ls stk (P, I) q (o'.bind kk) := by
  subst hn
  subst hstk
  intro out ho h1 h2
  obtain ⟨r, hr, hk⟩ := Option.bind_eq_some_iff.mp ho
  obtain ⟨⟨mm1, mm2⟩, hMet⟩ := hC l D hlt hsh r hr
  have mm1 : sz ≤ (fin' r).2.1 := mm1
  have mm2 : sl ≤ (fin' r).2.2.1 := mm2
  have h1' : c0.1 ≤ sz := h1
  have h2' : c0.2 ≤ sl := h2
  have g' := g r hr out hk (Nat.le_trans h1' mm1) (Nat.le_trans h2' mm2)
  have n1 : (fin' r).2.1 ≤ (q out).1.1 := g'.1.1
  have n2 : (fin' r).2.2.1 ≤ (q out).1.2 := g'.1.2
  refine ⟨⟨Nat.le_trans mm1 n1, Nat.le_trans mm2 n2⟩, fun H locs la hR hS hl => ?_⟩
  intro T0 hT X
  obtain ⟨v, st₀, t, T', L, h0, X', hL, e1, e2, ⟨⟨hv, hP1⟩, hF⟩, stp⟩ := va_runI (As := vals) (b := a) (rest := st) K hMet (cwI vals.length K.2.2.2.2 hw rfl rfl rfl (K.2.2.2.2 _ hini) (K.2.2.2.2 _ hlink) (K.2.2.2.2 _ hins) hy1 hdd hroom) ⟨fun a U g mk q => by obtain ⟨q0, q1, q2⟩ := q; exact ⟨q0, q1, xK.same rfl rfl q2⟩, fun U hU hW => ⟨rfl, by rw [hU]; exact hR, xK.warm hW hS hU hK⟩⟩ rfl rfl hl.1 rfl (lv_room hcat) hd ⟨by show sz - c0.1 + ((fin' r).2.1 - sz) ≤ (q out).1.1 - c0.1; omega, by show sl - c0.2 + ((fin' r).2.2.1 - sl) ≤ (q out).1.2 - c0.2; omega⟩ T0 hT X
  cases hv
  have hz : H.size ≤ t.heap.size := by rw [← h0]; exact hF.1
  have hS1 : va_S (xA z) s.heap T'.heap (locs ++ L) := by
    refine ⟨by rw [e1]; exact Nat.le_trans hS.1 hz, fun x hx hxA => ?_, fun z hzz => ?_⟩
    · rw [e1, hF.2 x (by rw [h0]; exact Nat.lt_of_lt_of_le hx hS.1) hxA, h0]
      exact hS.2.1 x hx hxA
    · rcases List.mem_append.mp hzz with h | h
      · exact hS.2.2 z h
      · exact hL z h
  have c1 : sz - c0.1 + ((fin' r).2.1 - sz) = (fin' r).2.1 - c0.1 := by omega
  have c2 : sl - c0.2 + ((fin' r).2.2.1 - sl) = (fin' r).2.2.1 - c0.2 := by omega
  dsimp only at X'
  rw [c1, c2] at X'
  obtain ⟨t2, a1, b1⟩ := g'.2 T'.heap (locs ++ L) la (by rw [e1]; exact hP1) hS1 hl T' rfl X'
  exact ⟨t2, stp t2 a1, b1⟩
/-- a constructor of a nest mate -/
theorem ga_callIN (K : CallFix p m c cc nL s args lw_all own) (hK : xK D cs z s) (hsh : Shp z kd) (hlt : l.stackTraces = false) {sl : Nat} {y : MethodName} {bytes : ByteArray} {maxL index a : Nat} {fr' lo' : Nat} {vals stk : List Value} {O' : Type} {fin' : O' → Option Value × Sy} {o' : Option O'} {kk : O' → Option O} (n : Nat) (hC : CtA cs z y bytes maxL none fr' lo' (.ref a :: vals) (sz, sl, kd, P, I) fin' o') (hw : GoodIn lw_all (ws_ y bytes maxL none)) (hini : Cond.initialized y.cls ∈ lw_all) (hlink : va_Nw (.methodLinkNest own index y "GingerRents") s) (hins : Cond.instanceMethod y ∈ lw_all) (hy1 : y.name = "<init>")
    (hdd : y.cls ≠ "java/lang/invoke/MethodHandle" ∧ y.cls ≠ "java/lang/invoke/VarHandle" ∧ (parseMethodDescriptor y.desc).map (fun d => d.parameters.length) = some vals.length) (hroom : fr' + 1 ≤ fr ∧ 8 + (maxL + 11) + lo' ≤ lo) (hstk : stk = vals.reverse ++ .ref a :: st) (hcat : (st.map fun v => v.category).sum ≤ 8)
    (hd : decode cc pc = .ok (.invokespecial index, 3)) (hn : pc + 3 = n) (g : ∀ r, o' = some r → Gx p l e fr lo s m args below meth c nL c0 ((fin' r).2.1, (fin' r).2.2.1) D cs z ((fin' r).2.1) ((fin' r).2.2.2.1) n ls ((fin' r).1.toList ++ st) (fin' r).2.2.2.2 q (kk r)) : Gx p l e fr lo s m args below meth c nL c0 (sz, sl) D cs z (sz) (kd) pc ls stk (P, I) q (o'.bind kk) := by
  subst hn
  subst hstk
  intro out ho h1 h2
  obtain ⟨r, hr, hk⟩ := Option.bind_eq_some_iff.mp ho
  obtain ⟨⟨mm1, mm2⟩, hMet⟩ := hC l D hlt hsh r hr
  have mm1 : sz ≤ (fin' r).2.1 := mm1
  have mm2 : sl ≤ (fin' r).2.2.1 := mm2
  have h1' : c0.1 ≤ sz := h1
  have h2' : c0.2 ≤ sl := h2
  have g' := g r hr out hk (Nat.le_trans h1' mm1) (Nat.le_trans h2' mm2)
  have n1 : (fin' r).2.1 ≤ (q out).1.1 := g'.1.1
  have n2 : (fin' r).2.2.1 ≤ (q out).1.2 := g'.1.2
  refine ⟨⟨Nat.le_trans mm1 n1, Nat.le_trans mm2 n2⟩, fun H locs la hR hS hl => ?_⟩
  intro T0 hT X
  obtain ⟨v, st₀, t, T', L, h0, X', hL, e1, e2, ⟨⟨hv, hP1⟩, hF⟩, stp⟩ := va_runIN (As := vals) (b := a) (rest := st) K hMet ⟨va_cnB vals.length K.2.2.2.2 hw rfl rfl rfl hlink (K.2.2.2.2 _ hini) hdd hroom, hy1, K.2.2.2.2 _ hins⟩ ⟨fun a U g mk q => by obtain ⟨q0, q1, q2⟩ := q; exact ⟨q0, q1, xK.same rfl rfl q2⟩, fun U hU hW => ⟨rfl, by rw [hU]; exact hR, xK.warm hW hS hU hK⟩⟩ rfl rfl hl.1 rfl (lv_room hcat) hd ⟨by show sz - c0.1 + ((fin' r).2.1 - sz) ≤ (q out).1.1 - c0.1; omega, by show sl - c0.2 + ((fin' r).2.2.1 - sl) ≤ (q out).1.2 - c0.2; omega⟩ T0 hT X
  cases hv
  have hz : H.size ≤ t.heap.size := by rw [← h0]; exact hF.1
  have hS1 : va_S (xA z) s.heap T'.heap (locs ++ L) := by
    refine ⟨by rw [e1]; exact Nat.le_trans hS.1 hz, fun x hx hxA => ?_, fun z hzz => ?_⟩
    · rw [e1, hF.2 x (by rw [h0]; exact Nat.lt_of_lt_of_le hx hS.1) hxA, h0]
      exact hS.2.1 x hx hxA
    · rcases List.mem_append.mp hzz with h | h
      · exact hS.2.2 z h
      · exact hL z h
  have c1 : sz - c0.1 + ((fin' r).2.1 - sz) = (fin' r).2.1 - c0.1 := by omega
  have c2 : sl - c0.2 + ((fin' r).2.2.1 - sl) = (fin' r).2.2.1 - c0.2 := by omega
  dsimp only at X'
  rw [c1, c2] at X'
  obtain ⟨t2, a1, b1⟩ := g'.2 T'.heap (locs ++ L) la (by rw [e1]; exact hP1) hS1 hl T' rfl X'
  exact ⟨t2, stp t2 a1, b1⟩
/-- a final field, written by the constructor -/
theorem w_putF {R : Room} {H : Heap} {locs : List Loc} {ce sl : Nat} {Q : State → Prop} {la : Array Slot} {rest : List Value} (K : CallFix p m c cc nL s args lw_all own) (hK : va_K D clX (xtys cs) s) {C : String} {T : u_T} {N ci index a : Nat} (hin : ∀ w ∈ u_ws C T N, w ∈ lw_all) (ty0 : Nat → FieldType) (hty : ∀ k, k < N → parseFieldDescriptor (T k).2.2.1 = some (ty0 k)) (hnm : ∀ a, a < N → ∀ b, b < N → a ≠ b → (T a).2.1 ≠ (T b).2.1) {fs : List Value} (hat : va_at D clX (a, .inr (ci, fs)) H) (hc : clX[ci]? = some (C, T, N)) (k : Nat) (hk : k < N)
    (hlink : Cond.fieldLink own index (T k).1 (T k).2.1 (T k).2.2.1 ∈ lw_all) (hfin : (T k).2.2.2 = true) (hin2 : meth.name = "<init>") (hdecl : (T k).1 = own) {ty : FieldType} {v : Value} (hd : parseFieldDescriptor (T k).2.2.1 = some ty) (hn : narrow ty v = v) (hfit : fits ty v = true) (hl : k < fs.length) (hdg : decode cc pc = .ok (.putfield index, 3))
    (kk : ∀ (H1 : Heap) (j : Nat), va_at D clX (a, .inr (ci, fs.set k v)) H1 → H1.size = H.size → (∀ q, q ≠ a → H1[q]? = H[q]?) → W p l e R s m args below meth c H1 (locs ++ [⟨a, j⟩]) ce sl Q (F0 m (pc + 3) la rest)) : W p l e R s m args below meth c H locs ce sl Q (F0 m pc la (v :: .ref a :: rest)) := by
  obtain ⟨hx, hb, -, hown, hts⟩ := K
  have hap := va_apart (own := own) hts hin ty0 hty hnm hK hc
  obtain ⟨r, h1, cell, q1, q2, q3, q4⟩ := hat
  have hr : r = (C, T, N) := Option.some.inj (h1.symm.trans hc)
  subst hr
  obtain ⟨hS, hfc, kC, hkC, hkind⟩ := hK.1 ci _ hc
  obtain ⟨cf, kf, fi, f, hi, hsl⟩ := hS k hk
  have hlay := hts _ (hin _ (u_in_lay hk))
  unfold u_lay at hlay
  rw [if_pos hfin] at hlay
  have hst := (u_facts hfc hkC (u_lays hts hin hk) hi).1
  have hcf : m.cls = cf := by
    obtain ⟨_, _, c', _, _, _, -, -, hf', -, -, -, hown2, -⟩ := Cond.laysFinal_spec hlay
    have e1 : c' = cf := by have := hi.symm.trans hf'; simp at this; exact this.1.symm
    rw [hdecl] at hown2
    rw [← e1]; exact Option.some.inj (hown.symm.trans hown2)
  have h6 := u_fits hfc hkC hkind (Or.inr hlay) hi hd hn hfit
  refine W.putFinK hx hb hown (hts _ hlink) hi hst hcf hin2 (by rw [q2]; exact h6) q1 q3 (by rw [hsl]; exact k2_hasslot (q4 k hk)) rfl rfl hdg fun H' e1 e2 e3 => ?_
  rw [hsl] at e1 ⊢
  exact kk H' _ ⟨_, hc, t_OB.to (V := updV (vp_V fs) k v) ⟨_, e1, q2, q3, t_set q4 hap hk v⟩ (fun j _ => vp_updV_set hl v j)⟩ e2 e3
theorem ga_putF (K : CallFix p m c cc nL s args lw_all own) (hK : xK D cs z s) (hsh : Shp z kd) {C : String} {T : u_T} {N ci index a : Nat} {t : Nat × Nat × Nat} {fs : List Value} (k : Nat) {x : Int32} {ty : FieldType} {kk : Mem → Option O} (n : Nat) (hin : ∀ w ∈ u_ws C T N, w ∈ lw_all) (ty0 : Nat → FieldType) (hty : ∀ k, k < N → parseFieldDescriptor (T k).2.2.1 = some (ty0 k)) (hnm : ∀ a, a < N → ∀ b, b < N → a ≠ b → (T a).2.1 ≠ (T b).2.1) (hka : kd a = t) (he : cellE cs z t a (P a) (I a) = .inr (ci, fs)) (he2 : cellE cs z t a (P a) (upd (I a) k x) = .inr (ci, fs.set k (.int x))) (h90 : t.1 < 90) (hc : clX[ci]? = some (C, T, N)) (hk : k < N)
    (hlink : Cond.fieldLink own index (T k).1 (T k).2.1 (T k).2.2.1 ∈ lw_all) (hfin : (T k).2.2.2 = true) (hin2 : meth.name = "<init>") (hdecl : (T k).1 = own) (hpd : parseFieldDescriptor (T k).2.2.1 = some ty) (hnar : narrow ty (.int x) = .int x) (hfit : fits ty (.int x) = true) (hlen : k < fs.length) (hd : decode cc pc = .ok (.putfield index, 3)) (hn : pc + 3 = n) (g : ∀ I1, I1 = up2 I a k x → Gx p l e fr lo s m args below meth c nL c0 k0 D cs z sz kd n ls st (P, I1) q (kk I1)) : Gx p l e fr lo s m args below meth c nL c0 k0 D cs z sz kd pc ls (.int x :: .ref a :: st) (P, I) q (nm (up2 I a k x) kk) := by
  subst hn
  intro out ho h1 h2
  have g' := g _ rfl out ho h1 h2
  refine ⟨g'.1, fun H locs la hR hS hl => ?_⟩
  have hA := sh_xA hsh (a := a) (by rw [hka]; exact h90)
  have hat := hR.2 a (by rw [hka]; exact h90)
  rw [hka, he] at hat
  refine w_putF K hK.1 hin ty0 hty hnm hat hc k hk hlink hfin hin2 hdecl hpd hnar hfit hlen hd (fun H1 j hat1 hz oq => ?_)
  refine g'.2 H1 _ la (xset hR hz oq (fun _ _ => rfl) (fun b hb => if_neg hb) ?_) (hS.put hz oq hA) hl
  rw [hka, show up2 I a k x a = upd (I a) k x from if_pos rfl, he2]
  exact hat1
theorem ga_putpF (K : CallFix p m c cc nL s args lw_all own) (hK : xK D cs z s) (hsh : Shp z kd) {C : String} {T : u_T} {N ci index a b : Nat} {t : Nat × Nat × Nat} {fs : List Value} (k : Nat) {ty : FieldType} {kk : Ptr → Option O} (n : Nat) (hin : ∀ w ∈ u_ws C T N, w ∈ lw_all) (ty0 : Nat → FieldType) (hty : ∀ k, k < N → parseFieldDescriptor (T k).2.2.1 = some (ty0 k)) (hnm : ∀ a, a < N → ∀ b, b < N → a ≠ b → (T a).2.1 ≠ (T b).2.1) (hka : kd a = t) (he : cellE cs z t a (P a) (I a) = .inr (ci, fs)) (he2 : cellE cs z t a (va_up (P a) k (some b)) (I a) = .inr (ci, fs.set k (.ref b))) (h90 : t.1 < 90) (hc : clX[ci]? = some (C, T, N)) (hk : k < N)
    (hlink : Cond.fieldLink own index (T k).1 (T k).2.1 (T k).2.2.1 ∈ lw_all) (hfin : (T k).2.2.2 = true) (hin2 : meth.name = "<init>") (hdecl : (T k).1 = own) (hpd : parseFieldDescriptor (T k).2.2.1 = some ty) (hnar : narrow ty (.ref b) = .ref b) (hfit : fits ty (.ref b) = true) (hlen : k < fs.length) (hd : decode cc pc = .ok (.putfield index, 3)) (hn : pc + 3 = n) (g : ∀ P1, P1 = upP P a k (some b) → Gx p l e fr lo s m args below meth c nL c0 k0 D cs z sz kd n ls st (P1, I) q (kk P1)) : Gx p l e fr lo s m args below meth c nL c0 k0 D cs z sz kd pc ls (.ref b :: .ref a :: st) (P, I) q (nm (upP P a k (some b)) kk) := by
  subst hn
  intro out ho h1 h2
  have g' := g _ rfl out ho h1 h2
  refine ⟨g'.1, fun H locs la hR hS hl => ?_⟩
  have hA := sh_xA hsh (a := a) (by rw [hka]; exact h90)
  have hat := hR.2 a (by rw [hka]; exact h90)
  rw [hka, he] at hat
  refine w_putF K hK.1 hin ty0 hty hnm hat hc k hk hlink hfin hin2 hdecl hpd hnar hfit hlen hd (fun H1 j hat1 hz oq => ?_)
  refine g'.2 H1 _ la (xset hR hz oq (fun b hb => if_neg hb) (fun _ _ => rfl) ?_) (hS.put hz oq hA) hl
  rw [hka, show upP P a k (some b) a = va_up (P a) k (some b) from if_pos rfl, he2]
  exact hat1
theorem ga_objInit (K : CallFix p m c cc nL s args lw_all own) (hK : xK D cs z s) (hsh : Shp z kd) {index a : Nat} (n : Nat) (hlink : Cond.methodLink own index Lib.objectInit ∈ lw_all) (hins : Cond.instanceMethod Lib.objectInit ∈ lw_all) (hcode : Cond.code Lib.objectInit ⟨#[0xb1]⟩ 1 none ∈ lw_all) (hfr : 1 ≤ fr) (hlo : 20 ≤ lo) (hcat : (st.map fun v => v.category).sum ≤ 8) (hd : decode cc pc = .ok (.invokespecial index, 3)) (hn : pc + 3 = n) (g : Gx p l e fr lo s m args below meth c nL c0 k0 D cs z sz kd n ls st (P, I) q o) : Gx p l e fr lo s m args below meth c nL c0 k0 D cs z sz kd pc ls (.ref a :: st) (P, I) q o := by
  subst hn
  intro out ho h1 h2
  have g' := g out ho h1 h2
  refine ⟨g'.1, fun H locs la hR hS hl => ?_⟩
  exact W.objInit K.1 K.2.1 K.2.2.2.1 (K.2.2.2.2 _ hlink) (K.2.2.2.2 _ hins) (K.2.2.2.2 _ hcode) rfl (hl.1.trans K.2.2.1.symm) rfl hd hfr (by show 2 * 0 + (st.map fun v => v.category).sum + 12 ≤ lo; omega) (g'.2 H locs la hR hS hl)
end GAR
