/-! ===== a borough of x's beside the model's row ===== -/
/-- where x's borough at b has the model's cell k, i: 1 the row of now, 7 almonds, 8 teeth, 6 how many houses, 5 whether it is thought -/
def xl (b k i : Nat) : Nat × Nat :=
  if k = 1 then
    if i = 0 then (b, 19) else if i = 1 then (b, 20) else if i = 2 then (b, 21) else if i = 3 then (b, 15) else if i = 4 then (b, 16) else if i = 5 then (b, 17) else if i = 6 then (b, 18)
    else if i < 55 then (b + 246 + 2 * ((i - 7) / 4), (i - 7) % 4)
    else if i < 67 then (b + 245 + 2 * (i - 55), 3) else if i < 79 then (b + 245 + 2 * (i - 67), 4) else if i < 91 then (b + 245 + 2 * (i - 79), 5) else if i < 103 then (b + 245 + 2 * (i - 91), 7) else (b + 245 + 2 * (i - 103), 6)
  else if k = 7 then (b + 245 + 2 * i, 1) else if k = 8 then (b + 245 + 2 * i, 2) else if k = 6 then (b, 14) else (b, 23)
def mi (k i : Nat) : Prop := (k = 1 ∧ i < 115) ∨ (k = 7 ∧ i < 12) ∨ (k = 8 ∧ i < 12) ∨ (k = 6 ∧ i = 0) ∨ (k = 5 ∧ i = 0)
theorem xl_wall {b h w : Nat} (hh : h < 12) (hw : w < 4) : xl b 1 (7 + 4 * h + w) = (b + 246 + 2 * h, w) := by
  unfold xl
  simp only [if_true, reduceIte]
  rw [if_neg (by omega), if_neg (by omega), if_neg (by omega), if_neg (by omega), if_neg (by omega), if_neg (by omega), if_neg (by omega), if_pos (by omega), show (7 + 4 * h + w - 7) / 4 = h by omega, show (7 + 4 * h + w - 7) % 4 = w by omega]
theorem xl_hard {b h : Nat} (hh : h < 12) : xl b 1 (55 + h) = (b + 245 + 2 * h, 3) := by
  unfold xl
  simp only [if_true, reduceIte]
  rw [if_neg (by omega), if_neg (by omega), if_neg (by omega), if_neg (by omega), if_neg (by omega), if_neg (by omega), if_neg (by omega), if_neg (by omega), if_pos (by omega), show 55 + h - 55 = h by omega]
theorem xl_icing {b h : Nat} (hh : h < 12) : xl b 1 (67 + h) = (b + 245 + 2 * h, 4) := by
  unfold xl
  simp only [if_true, reduceIte]
  rw [if_neg (by omega), if_neg (by omega), if_neg (by omega), if_neg (by omega), if_neg (by omega), if_neg (by omega), if_neg (by omega), if_neg (by omega), if_neg (by omega), if_pos (by omega), show 67 + h - 67 = h by omega]
theorem xl_lodgers {b h : Nat} (hh : h < 12) : xl b 1 (79 + h) = (b + 245 + 2 * h, 5) := by
  unfold xl
  simp only [if_true, reduceIte]
  rw [if_neg (by omega), if_neg (by omega), if_neg (by omega), if_neg (by omega), if_neg (by omega), if_neg (by omega), if_neg (by omega), if_neg (by omega), if_neg (by omega), if_neg (by omega), if_pos (by omega), show 79 + h - 79 = h by omega]
theorem xl_door {b h : Nat} (hh : h < 12) : xl b 1 (91 + h) = (b + 245 + 2 * h, 7) := by
  unfold xl
  simp only [if_true, reduceIte]
  rw [if_neg (by omega), if_neg (by omega), if_neg (by omega), if_neg (by omega), if_neg (by omega), if_neg (by omega), if_neg (by omega), if_neg (by omega), if_neg (by omega), if_neg (by omega), if_neg (by omega), if_pos (by omega), show 91 + h - 91 = h by omega]
theorem xl_age {b h : Nat} (hh : h < 12) : xl b 1 (103 + h) = (b + 245 + 2 * h, 6) := by
  unfold xl
  simp only [if_true, reduceIte]
  rw [if_neg (by omega), if_neg (by omega), if_neg (by omega), if_neg (by omega), if_neg (by omega), if_neg (by omega), if_neg (by omega), if_neg (by omega), if_neg (by omega), if_neg (by omega), if_neg (by omega), if_neg (by omega), show 103 + h - 103 = h by omega]
theorem mi_cases {k i : Nat} (h : mi k i) : (k = 1 ∧ i < 7) ∨ (∃ h w, h < 12 ∧ w < 4 ∧ k = 1 ∧ i = 7 + 4 * h + w) ∨ (∃ h, h < 12 ∧ k = 1 ∧ i = 55 + h) ∨ (∃ h, h < 12 ∧ k = 1 ∧ i = 67 + h) ∨ (∃ h, h < 12 ∧ k = 1 ∧ i = 79 + h) ∨ (∃ h, h < 12 ∧ k = 1 ∧ i = 91 + h) ∨ (∃ h, h < 12 ∧ k = 1 ∧ i = 103 + h) ∨ (k = 7 ∧ i < 12) ∨ (k = 8 ∧ i < 12) ∨ (k = 6 ∧ i = 0) ∨ (k = 5 ∧ i = 0) := by
  unfold mi at h
  rcases h with ⟨h1, h2⟩ | h | h | h | h
  · by_cases a : i < 7
    · exact Or.inl ⟨h1, a⟩
    by_cases a : i < 55
    · exact Or.inr (Or.inl ⟨(i - 7) / 4, (i - 7) % 4, by omega, by omega, h1, by omega⟩)
    by_cases a : i < 67
    · exact Or.inr (Or.inr (Or.inl ⟨i - 55, by omega, h1, by omega⟩))
    by_cases a : i < 79
    · exact Or.inr (Or.inr (Or.inr (Or.inl ⟨i - 67, by omega, h1, by omega⟩)))
    by_cases a : i < 91
    · exact Or.inr (Or.inr (Or.inr (Or.inr (Or.inl ⟨i - 79, by omega, h1, by omega⟩))))
    by_cases a : i < 103
    · exact Or.inr (Or.inr (Or.inr (Or.inr (Or.inr (Or.inl ⟨i - 91, by omega, h1, by omega⟩)))))
    · exact Or.inr (Or.inr (Or.inr (Or.inr (Or.inr (Or.inr (Or.inl ⟨i - 103, by omega, h1, by omega⟩))))))
  · exact Or.inr (Or.inr (Or.inr (Or.inr (Or.inr (Or.inr (Or.inr (Or.inl h)))))))
  · exact Or.inr (Or.inr (Or.inr (Or.inr (Or.inr (Or.inr (Or.inr (Or.inr (Or.inl h))))))))
  · exact Or.inr (Or.inr (Or.inr (Or.inr (Or.inr (Or.inr (Or.inr (Or.inr (Or.inr (Or.inl h)))))))))
  · exact Or.inr (Or.inr (Or.inr (Or.inr (Or.inr (Or.inr (Or.inr (Or.inr (Or.inr (Or.inr h)))))))))
theorem xl_low {b i : Nat} (h : i < 7) : xl b 1 i = (b, [19, 20, 21, 15, 16, 17, 18].getD i 0) := by
  have : i = 0 ∨ i = 1 ∨ i = 2 ∨ i = 3 ∨ i = 4 ∨ i = 5 ∨ i = 6 := by omega
  rcases this with rfl | rfl | rfl | rfl | rfl | rfl | rfl <;> rfl
/-- the way back -/
def xi (d j : Nat) : Nat × Nat := if d = 0 then (if j = 19 then (1, 0) else if j = 20 then (1, 1) else if j = 21 then (1, 2) else if j = 15 then (1, 3) else if j = 16 then (1, 4) else if j = 17 then (1, 5) else if j = 18 then (1, 6) else if j = 14 then (6, 0) else (5, 0))
  else if d % 2 = 0 then (1, 7 + 4 * ((d - 246) / 2) + j) else if j = 3 then (1, 55 + (d - 245) / 2) else if j = 4 then (1, 67 + (d - 245) / 2) else if j = 5 then (1, 79 + (d - 245) / 2) else if j = 7 then (1, 91 + (d - 245) / 2) else if j = 6 then (1, 103 + (d - 245) / 2) else if j = 1 then (7, (d - 245) / 2) else (8, (d - 245) / 2)
theorem xi_xl {b k i : Nat} (hm : mi k i) : xi ((xl b k i).1 - b) (xl b k i).2 = (k, i) := by
  have od : ∀ h : Nat, b + 245 + 2 * h - b = 245 + 2 * h := fun h => by omega
  have ev : ∀ h : Nat, b + 246 + 2 * h - b = 246 + 2 * h := fun h => by omega
  have o1 : ∀ h : Nat, ¬ 245 + 2 * h = 0 := fun h => by omega
  have o2 : ∀ h : Nat, ¬ (245 + 2 * h) % 2 = 0 := fun h => by omega
  have o3 : ∀ h : Nat, (245 + 2 * h - 245) / 2 = h := fun h => by omega
  rcases mi_cases hm with ⟨rfl, h⟩ | ⟨h, w, hh, hw, rfl, rfl⟩ | ⟨h, hh, rfl, rfl⟩ | ⟨h, hh, rfl, rfl⟩ | ⟨h, hh, rfl, rfl⟩ | ⟨h, hh, rfl, rfl⟩ | ⟨h, hh, rfl, rfl⟩ | ⟨rfl, h⟩ | ⟨rfl, h⟩ | ⟨rfl, rfl⟩ | ⟨rfl, rfl⟩
  · rw [xl_low h]
    show xi (b - b) _ = _
    rw [Nat.sub_self]
    have : i = 0 ∨ i = 1 ∨ i = 2 ∨ i = 3 ∨ i = 4 ∨ i = 5 ∨ i = 6 := by omega
    rcases this with rfl | rfl | rfl | rfl | rfl | rfl | rfl <;> rfl
  · rw [xl_wall hh hw]
    show xi (b + 246 + 2 * h - b) w = _
    rw [ev, xi, if_neg (by omega), if_pos (by omega), show (246 + 2 * h - 246) / 2 = h by omega]
  · rw [xl_hard hh]
    show xi (b + 245 + 2 * h - b) 3 = _
    rw [od, xi, if_neg (o1 h), if_neg (o2 h), if_pos rfl, o3]
  · rw [xl_icing hh]
    show xi (b + 245 + 2 * h - b) 4 = _
    rw [od, xi, if_neg (o1 h), if_neg (o2 h), if_neg (by decide), if_pos rfl, o3]
  · rw [xl_lodgers hh]
    show xi (b + 245 + 2 * h - b) 5 = _
    rw [od, xi, if_neg (o1 h), if_neg (o2 h), if_neg (by decide), if_neg (by decide), if_pos rfl, o3]
  · rw [xl_door hh]
    show xi (b + 245 + 2 * h - b) 7 = _
    rw [od, xi, if_neg (o1 h), if_neg (o2 h), if_neg (by decide), if_neg (by decide), if_neg (by decide), if_pos rfl, o3]
  · rw [xl_age hh]
    show xi (b + 245 + 2 * h - b) 6 = _
    rw [od, xi, if_neg (o1 h), if_neg (o2 h), if_neg (by decide), if_neg (by decide), if_neg (by decide), if_neg (by decide), if_pos rfl, o3]
  · show xi (b + 245 + 2 * i - b) 1 = _
    rw [od, xi, if_neg (o1 i), if_neg (o2 i), if_neg (by decide), if_neg (by decide), if_neg (by decide), if_neg (by decide), if_neg (by decide), if_pos rfl, o3]
  · show xi (b + 245 + 2 * i - b) 2 = _
    rw [od, xi, if_neg (o1 i), if_neg (o2 i), if_neg (by decide), if_neg (by decide), if_neg (by decide), if_neg (by decide), if_neg (by decide), if_neg (by decide), o3]
  · show xi (b - b) 14 = _
    rw [Nat.sub_self]; rfl
  · show xi (b - b) 23 = _
    rw [Nat.sub_self]; rfl
theorem xl_inj {b k i k' i' : Nat} (h : mi k i) (h' : mi k' i') (e : xl b k i = xl b k' i') : k = k' ∧ i = i' := by
  have h1 := xi_xl (b := b) h
  rw [e, xi_xl h'] at h1
  simp only [Prod.mk.injEq] at h1
  exact ⟨h1.1.symm, h1.2.symm⟩
/-- where its cells lie -/
theorem xl_house {b k i : Nat} (hm : mi k i) : (xl b k i).1 = b ∨ (b + 245 ≤ (xl b k i).1 ∧ (xl b k i).1 < b + 269) := by
  rcases mi_cases hm with ⟨rfl, h⟩ | ⟨h, w, hh, hw, rfl, rfl⟩ | ⟨h, hh, rfl, rfl⟩ | ⟨h, hh, rfl, rfl⟩ | ⟨h, hh, rfl, rfl⟩ | ⟨h, hh, rfl, rfl⟩ | ⟨h, hh, rfl, rfl⟩ | ⟨rfl, h⟩ | ⟨rfl, h⟩ | ⟨rfl, rfl⟩ | ⟨rfl, rfl⟩
  · rw [xl_low h]; exact Or.inl rfl
  · rw [xl_wall hh hw]; right; dsimp only; omega
  · rw [xl_hard hh]; right; dsimp only; omega
  · rw [xl_icing hh]; right; dsimp only; omega
  · rw [xl_lodgers hh]; right; dsimp only; omega
  · rw [xl_door hh]; right; dsimp only; omega
  · rw [xl_age hh]; right; dsimp only; omega
  · right; show b + 245 ≤ b + 245 + 2 * i ∧ b + 245 + 2 * i < b + 269; omega
  · right; show b + 245 ≤ b + 245 + 2 * i ∧ b + 245 + 2 * i < b + 269; omega
  · exact Or.inl rfl
  · exact Or.inl rfl
theorem xl_in {b k i : Nat} (h : mi k i) : b ≤ (xl b k i).1 ∧ (xl b k i).1 < b + 269 := by
  have := xl_house (b := b) h
  omega
def BR (I : Mem) (b : Nat) (μ : Mem) : Prop := ∀ k i, mi k i → I (xl b k i).1 (xl b k i).2 = μ k i
theorem mi_row {i : Nat} (h : i < 115) : mi 1 i := Or.inl ⟨rfl, h⟩
section BRs
variable {I μ : Mem} {b : Nat}
theorem BR.get (h : BR I b μ) {k i a j : Nat} (hm : mi k i) (hl : xl b k i = (a, j)) : I a j = μ k i := by
  have := h k i hm
  rw [hl] at this
  exact this
theorem BR.quarter (h : BR I b μ) : I b 19 = μ 1 0 := h.get (mi_row (by decide)) rfl
theorem BR.state (h : BR I b μ) : I b 20 = μ 1 1 := h.get (mi_row (by decide)) rfl
theorem BR.lines (h : BR I b μ) : I b 21 = μ 1 2 := h.get (mi_row (by decide)) rfl
theorem BR.rain (h : BR I b μ) : I b 15 = μ 1 3 := h.get (mi_row (by decide)) rfl
theorem BR.frost (h : BR I b μ) : I b 16 = μ 1 4 := h.get (mi_row (by decide)) rfl
theorem BR.eaten (h : BR I b μ) : I b 17 = μ 1 5 := h.get (mi_row (by decide)) rfl
theorem BR.gnawed (h : BR I b μ) : I b 18 = μ 1 6 := h.get (mi_row (by decide)) rfl
theorem BR.houses (h : BR I b μ) : I b 14 = μ 6 0 := h.get (Or.inr (Or.inr (Or.inr (Or.inl ⟨rfl, rfl⟩)))) rfl
theorem BR.thought (h : BR I b μ) : I b 23 = μ 5 0 := h.get (Or.inr (Or.inr (Or.inr (Or.inr ⟨rfl, rfl⟩)))) rfl
theorem BR.wall (h : BR I b μ) {k w : Nat} (hh : k < 12) (hw : w < 4) : I (b + 246 + 2 * k) w = μ 1 (7 + 4 * k + w) := h.get (mi_row (by omega)) (xl_wall hh hw)
theorem BR.hard (h : BR I b μ) {k : Nat} (hh : k < 12) : I (b + 245 + 2 * k) 3 = μ 1 (55 + k) := h.get (mi_row (by omega)) (xl_hard hh)
theorem BR.icing (h : BR I b μ) {k : Nat} (hh : k < 12) : I (b + 245 + 2 * k) 4 = μ 1 (67 + k) := h.get (mi_row (by omega)) (xl_icing hh)
theorem BR.lodgers (h : BR I b μ) {k : Nat} (hh : k < 12) : I (b + 245 + 2 * k) 5 = μ 1 (79 + k) := h.get (mi_row (by omega)) (xl_lodgers hh)
theorem BR.door (h : BR I b μ) {k : Nat} (hh : k < 12) : I (b + 245 + 2 * k) 7 = μ 1 (91 + k) := h.get (mi_row (by omega)) (xl_door hh)
theorem BR.age (h : BR I b μ) {k : Nat} (hh : k < 12) : I (b + 245 + 2 * k) 6 = μ 1 (103 + k) := h.get (mi_row (by omega)) (xl_age hh)
theorem BR.almonds (h : BR I b μ) {k : Nat} (hh : k < 12) : I (b + 245 + 2 * k) 1 = μ 7 k := h.get (Or.inr (Or.inl ⟨rfl, hh⟩)) rfl
theorem BR.teeth (h : BR I b μ) {k : Nat} (hh : k < 12) : I (b + 245 + 2 * k) 2 = μ 8 k := h.get (Or.inr (Or.inr (Or.inl ⟨rfl, hh⟩))) rfl
/-- the same write on both sides -/
theorem BR.set (h : BR I b μ) {k i a j : Nat} (hm : mi k i) (hl : xl b k i = (a, j)) (x : Int32) : BR (up2 I a j x) b (up2 μ k i x) := by
  intro k' i' hm'
  by_cases e : k' = k ∧ i' = i
  · obtain ⟨rfl, rfl⟩ := e
    rw [hl, up2_same, up2_same]
  · rw [up2_ne (by
      by_cases e1 : (xl b k' i').1 = a
      · refine Or.inr (fun e2 => e ?_)
        exact xl_inj (b := b) hm' hm (by rw [hl, ← e1, ← e2])
      · exact Or.inl e1), up2_ne (by omega)]
    exact h k' i' hm'
/-- a write of x's elsewhere -/
theorem BR.xo (h : BR I b μ) {a j : Nat} (x : Int32) (hn : ∀ k i, mi k i → xl b k i ≠ (a, j)) : BR (up2 I a j x) b μ := by
  intro k i hm
  rw [up2_ne (by
    by_cases e1 : (xl b k i).1 = a
    · exact Or.inr (fun e2 => hn k i hm (by rw [← e1, ← e2]))
    · exact Or.inl e1)]
  exact h k i hm
/-- a write of the model's elsewhere -/
theorem BR.mo (h : BR I b μ) {k i : Nat} (x : Int32) (hn : ¬ mi k i) : BR I b (up2 μ k i x) := by
  intro k' i' hm
  rw [h k' i' hm]
  refine (up2_ne ?_).symm
  by_cases e : k' = k
  · refine Or.inr (fun e2 => hn ?_)
    rw [← e, ← e2]; exact hm
  · exact Or.inl e
theorem BR.cong (h : BR I b μ) {I' μ' : Mem} (hx : ∀ a, b ≤ a → a < b + 269 → (a = b ∨ b + 245 ≤ a) → I' a = I a) (hm : ∀ k, k = 1 ∨ k = 5 ∨ k = 6 ∨ k = 7 ∨ k = 8 → μ' k = μ k) : BR I' b μ' := by
  intro k i hmi
  have hk : μ' k = μ k := hm k (by unfold mi at hmi; omega)
  rw [hx _ (xl_in hmi).1 (xl_in hmi).2 (by have := xl_house (b := b) hmi; omega), hk]
  exact h k i hmi
end BRs
