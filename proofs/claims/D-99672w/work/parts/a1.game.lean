/-! ===== the slab: the game itself ===== -/
def dg (s r : Nat) : Nat := s / 7 ^ r % 7
def bd (s row c r : Nat) : Nat := if r < row then dg s r else min (dg s r) c
def bn (s row c : Nat) : Nat := fb_sm (fun r => 7 ^ r * bd s row c r) 5
def mono (s : Nat) : Prop := ∀ r, r < 4 → dg s (r + 1) ≤ dg s r
theorem dg_lt (s r : Nat) : dg s r < 7 := Nat.mod_lt _ (by decide)
theorem bd_le (s row c r : Nat) : bd s row c r ≤ dg s r := by
  unfold bd
  split
  · exact Nat.le_refl _
  · exact Nat.min_le_left _ _
theorem bn_eq (s row c : Nat) : bn s row c = bd s row c 0 + 7 * bd s row c 1 + 49 * bd s row c 2 + 343 * bd s row c 3 + 2401 * bd s row c 4 := by
  show 0 + 7 ^ 0 * bd s row c 0 + 7 ^ 1 * bd s row c 1 + 7 ^ 2 * bd s row c 2 + 7 ^ 3 * bd s row c 3 + 7 ^ 4 * bd s row c 4 = _
  omega
theorem dg_0 (s : Nat) : dg s 0 = s % 7 := by unfold dg; rw [Nat.pow_zero, Nat.div_one]
theorem dg_1 (s : Nat) : dg s 1 = s / 7 % 7 := rfl
theorem dg_2 (s : Nat) : dg s 2 = s / 49 % 7 := rfl
theorem dg_3 (s : Nat) : dg s 3 = s / 343 % 7 := rfl
theorem dg_4 (s : Nat) : dg s 4 = s / 2401 % 7 := rfl
theorem five {r : Nat} (h : r < 5) : r = 0 ∨ r = 1 ∨ r = 2 ∨ r = 3 ∨ r = 4 := by omega
theorem dg_bn (s row c : Nat) {r : Nat} (h : r < 5) : dg (bn s row c) r = bd s row c r := by
  have h0 := Nat.lt_of_le_of_lt (bd_le s row c 0) (dg_lt s 0)
  have h1 := Nat.lt_of_le_of_lt (bd_le s row c 1) (dg_lt s 1)
  have h2 := Nat.lt_of_le_of_lt (bd_le s row c 2) (dg_lt s 2)
  have h3 := Nat.lt_of_le_of_lt (bd_le s row c 3) (dg_lt s 3)
  have h4 := Nat.lt_of_le_of_lt (bd_le s row c 4) (dg_lt s 4)
  rw [bn_eq]
  rcases five h with rfl | rfl | rfl | rfl | rfl
  · rw [dg_0]; omega
  · rw [dg_1]; omega
  · rw [dg_2]; omega
  · rw [dg_3]; omega
  · rw [dg_4]; omega
theorem dg_sum {s : Nat} (h : s < 16807) : s = dg s 0 + 7 * dg s 1 + 49 * dg s 2 + 343 * dg s 3 + 2401 * dg s 4 := by
  rw [dg_0, dg_1, dg_2, dg_3, dg_4]; omega
theorem bn_lt {s row c : Nat} (h : s < 16807) (hr : row < 5) (hc : c < dg s row) : bn s row c < s := by
  have h0 := bd_le s row c 0
  have h1 := bd_le s row c 1
  have h2 := bd_le s row c 2
  have h3 := bd_le s row c 3
  have h4 := bd_le s row c 4
  have e : bd s row c row = c := by
    unfold bd
    rw [if_neg (Nat.lt_irrefl _), Nat.min_eq_right (Nat.le_of_lt hc)]
  have hs := dg_sum h
  rw [bn_eq]
  rcases five hr with rfl | rfl | rfl | rfl | rfl <;> omega
theorem bn_lt5 (s row c : Nat) : bn s row c < 16807 := by
  have h0 := Nat.lt_of_le_of_lt (bd_le s row c 0) (dg_lt s 0)
  have h1 := Nat.lt_of_le_of_lt (bd_le s row c 1) (dg_lt s 1)
  have h2 := Nat.lt_of_le_of_lt (bd_le s row c 2) (dg_lt s 2)
  have h3 := Nat.lt_of_le_of_lt (bd_le s row c 3) (dg_lt s 3)
  have h4 := Nat.lt_of_le_of_lt (bd_le s row c 4) (dg_lt s 4)
  rw [bn_eq]; omega
theorem mono_bn {s row c : Nat} (h : mono s) : mono (bn s row c) := by
  intro r hr
  rw [dg_bn _ _ _ (by omega), dg_bn _ _ _ (by omega)]
  have := h r hr
  unfold bd
  by_cases c1 : r + 1 < row
  · rw [if_pos c1, if_pos (by omega)]; exact this
  · rw [if_neg c1]
    by_cases c2 : r < row
    · rw [if_pos c2]; exact Nat.le_trans (Nat.min_le_left _ _) this
    · rw [if_neg c2]; omega
theorem mono_0 {s r : Nat} (h : mono s) (hr : r < 5) : dg s r ≤ dg s 0 := by
  have h0 : dg s 1 ≤ dg s 0 := h 0 (by decide)
  have h1 : dg s 2 ≤ dg s 1 := h 1 (by decide)
  have h2 : dg s 3 ≤ dg s 2 := h 2 (by decide)
  have h3 : dg s 4 ≤ dg s 3 := h 3 (by decide)
  rcases five hr with rfl | rfl | rfl | rfl | rfl <;> omega
/-- what is left is nothing just if the lowest corner was bitten -/
theorem bn_0 {s row c : Nat} (hm : mono s) (hr : row < 5) (hc : c < dg s row) : bn s row c = 0 ↔ row + c = 0 := by
  have h0 := mono_0 hm hr
  constructor
  · intro e
    have := dg_bn s row c (show 0 < 5 by decide)
    rw [e] at this
    have e2 : dg 0 0 = 0 := rfl
    rw [e2] at this
    unfold bd at this
    split at this <;> omega
  · intro e
    have e1 : row = 0 := by omega
    have e2 : c = 0 := by omega
    subst e1 e2
    have hb : ∀ r, bd s 0 0 r = 0 := fun r => by
      unfold bd
      rw [if_neg (Nat.not_lt_zero _), Nat.min_zero]
    rw [bn_eq, hb, hb, hb, hb, hb]
def ds (s : Nat) : Nat := dg s 0 + dg s 1 + dg s 2 + dg s 3 + dg s 4
theorem ds_bn {s row c : Nat} (hr : row < 5) (hc : c < dg s row) : ds (bn s row c) < ds s := by
  have h0 := bd_le s row c 0
  have h1 := bd_le s row c 1
  have h2 := bd_le s row c 2
  have h3 := bd_le s row c 3
  have h4 := bd_le s row c 4
  have e : bd s row c row = c := by
    unfold bd
    rw [if_neg (Nat.lt_irrefl _), Nat.min_eq_right (Nat.le_of_lt hc)]
  unfold ds
  rw [dg_bn _ _ _ (by decide), dg_bn _ _ _ (by decide), dg_bn _ _ _ (by decide), dg_bn _ _ _ (by decide), dg_bn _ _ _ (by decide)]
  rcases five hr with rfl | rfl | rfl | rfl | rfl <;> omega
theorem ds_le (s : Nat) : ds s ≤ 30 := by
  have h0 := dg_lt s 0
  have h1 := dg_lt s 1
  have h2 := dg_lt s 2
  have h3 := dg_lt s 3
  have h4 := dg_lt s 4
  unfold ds; omega
def loF : Nat → Nat → Bool
  | 0, _ => false
  | f + 1, s => decide (s ≠ 0) && (List.range 5).all (fun row => (List.range (dg s row)).all (fun c => !loF f (bn s row c)))
theorem loF_s (f s : Nat) : loF (f + 1) s = (decide (s ≠ 0) && (List.range 5).all (fun row => (List.range (dg s row)).all (fun c => !loF f (bn s row c)))) := rfl
theorem loF_iff (f s : Nat) : loF (f + 1) s = true ↔ s ≠ 0 ∧ ∀ row c, row < 5 → c < dg s row → loF f (bn s row c) = false := by
  rw [loF_s, Bool.and_eq_true, decide_eq_true_iff, List.all_eq_true]
  constructor
  · rintro ⟨h1, h2⟩
    refine ⟨h1, fun row c hr hc => ?_⟩
    have := List.all_eq_true.mp (h2 row (List.mem_range.mpr hr)) c (List.mem_range.mpr hc)
    rwa [Bool.not_eq_true'] at this
  · rintro ⟨h1, h2⟩
    refine ⟨h1, fun row hr => List.all_eq_true.mpr (fun c hc => ?_)⟩
    rw [Bool.not_eq_true']
    exact h2 row c (List.mem_range.mp hr) (List.mem_range.mp hc)
theorem loF_st : ∀ f g s, s < 16807 → s < f → s < g → loF f s = loF g s := by
  intro f
  induction f with
  | zero => intro g s _ h; omega
  | succ f ih =>
    intro g s h1 h2 h3
    cases g with
    | zero => omega
    | succ g =>
      have e : ∀ row c, row < 5 → c < dg s row → loF f (bn s row c) = loF g (bn s row c) := fun row c hr hc => by
        have := bn_lt h1 hr hc
        exact ih g _ (by omega) (by omega) (by omega)
      rw [Bool.eq_iff_iff, loF_iff, loF_iff]
      constructor
      · rintro ⟨a, b⟩
        exact ⟨a, fun row c hr hc => by rw [← e row c hr hc]; exact b row c hr hc⟩
      · rintro ⟨a, b⟩
        exact ⟨a, fun row c hr hc => by rw [e row c hr hc]; exact b row c hr hc⟩
def lo (s : Nat) : Bool := loF (s + 1) s
theorem lo_iff {s : Nat} (h : s < 16807) : lo s = true ↔ s ≠ 0 ∧ ∀ row c, row < 5 → c < dg s row → lo (bn s row c) = false := by
  unfold lo
  rw [loF_iff]
  have e : ∀ row c, row < 5 → c < dg s row → loF s (bn s row c) = loF (bn s row c + 1) (bn s row c) := fun row c hr hc => by
    have := bn_lt h hr hc
    exact loF_st _ _ _ (by omega) this (by omega)
  constructor
  · rintro ⟨a, b⟩
    exact ⟨a, fun row c hr hc => by rw [← e row c hr hc]; exact b row c hr hc⟩
  · rintro ⟨a, b⟩
    exact ⟨a, fun row c hr hc => by rw [e row c hr hc]; exact b row c hr hc⟩
theorem lo_0 : lo 0 = false := by
  cases h : lo 0 with
  | false => rfl
  | true => exact absurd rfl ((lo_iff (by decide)).mp h).1
/-- the first bite that is so -/
def FB (D : Nat → Nat) (p : Nat → Nat → Bool) (r : Int32) : Prop := (r = -1 ∧ ∀ row c, row < 5 → c < D row → p row c = false) ∨ ∃ row c, row < 5 ∧ c < D row ∧ c < 7 ∧ p row c = true ∧ (∀ row' c', row' < 5 → c' < D row' → (row' < row ∨ (row' = row ∧ c' < c)) → p row' c' = false) ∧ r = nI (10 * row + c)
theorem FB.one {D : Nat → Nat} {p : Nat → Nat → Bool} {r r' : Int32} (h : FB D p r) (h' : FB D p r') : r = r' := by
  rcases h with ⟨rfl, h⟩ | ⟨row, c, h1, h2, _, h3, h4, rfl⟩
  · rcases h' with ⟨rfl, _⟩ | ⟨row, c, h1, h2, _, h3, h4, rfl⟩
    · rfl
    · rw [h row c h1 h2] at h3; exact absurd h3 (by decide)
  · rcases h' with ⟨rfl, h⟩ | ⟨row', c', g1, g2, _, g3, g4, rfl⟩
    · rw [h row c h1 h2] at h3; exact absurd h3 (by decide)
    · have a : ¬ (row' < row ∨ (row' = row ∧ c' < c)) := fun q => by rw [h4 row' c' g1 g2 q] at g3; exact absurd g3 (by decide)
      have b : ¬ (row < row' ∨ (row = row' ∧ c < c')) := fun q => by rw [g4 row c h1 h2 q] at h3; exact absurd h3 (by decide)
      have e1 : row = row' := by omega
      have e2 : c = c' := by omega
      rw [e1, e2]
theorem FB.cong {D : Nat → Nat} {p p' : Nat → Nat → Bool} {r : Int32} (h : FB D p r) (e : ∀ row c, row < 5 → c < D row → p row c = p' row c) : FB D p' r := by
  rcases h with ⟨rfl, h⟩ | ⟨row, c, h1, h2, h7, h3, h4, rfl⟩
  · exact Or.inl ⟨rfl, fun row c hr hc => by rw [← e row c hr hc]; exact h row c hr hc⟩
  · exact Or.inr ⟨row, c, h1, h2, h7, by rw [← e row c h1 h2]; exact h3, fun row' c' a1 a2 a3 => by rw [← e row' c' a1 a2]; exact h4 row' c' a1 a2 a3, rfl⟩
theorem FB.no {D : Nat → Nat} {p : Nat → Nat → Bool} {r : Int32} (h : FB D p r) : r = -1 ↔ ∀ row c, row < 5 → c < D row → p row c = false := by
  rcases h with ⟨rfl, h⟩ | ⟨row, c, h1, h2, h7, h3, h4, rfl⟩
  · exact ⟨fun _ => h, fun _ => rfl⟩
  · refine ⟨fun e => absurd e (nI_ne_m1 (by omega)), fun q => ?_⟩
    rw [q row c h1 h2] at h3; exact absurd h3 (by decide)
