/-! ===== small sets as numbers ===== -/
/-- all of 2 ^ d numbers from s on -/
def allB (p : Nat → Bool) : Nat → Nat → Bool
  | 0, s => p s
  | d + 1, s => allB p d s && allB p d (s + 2 ^ d)
theorem allB_ok {p : Nat → Bool} : ∀ (d s : Nat), allB p d s = true → ∀ k, s ≤ k → k < s + 2 ^ d → p k = true := by
  intro d
  induction d with
  | zero => intro s h k h1 h2; rw [show k = s by simp at h2; omega]; exact h
  | succ d ih =>
    intro s h k h1 h2
    unfold allB at h
    rw [Bool.and_eq_true] at h
    rw [Nat.pow_succ] at h2
    by_cases c : k < s + 2 ^ d
    · exact ih s h.1 k h1 c
    · exact ih _ h.2 k (by omega) (by omega)
theorem allL {p : Nat → Bool} {n : Nat} (h : (List.range n).all p = true) {j : Nat} (hj : j < n) : p j = true := List.all_eq_true.mp h j (List.mem_range.mpr hj)
def ntzP (k : Nat) : Bool := k == 0 || (List.range 12).any (fun i => k.testBit i && ((List.range i).all (fun j => !k.testBit j) && decide (j4_numberOfTrailingZeros (nI k) = some (nI i))))
theorem ntz_B : allB ntzP 12 0 = true := by decide +kernel
theorem ntz_all {k : Nat} (h : k < 4096) (h0 : k ≠ 0) : ∃ i, i < 12 ∧ k.testBit i = true ∧ (∀ j, j < i → k.testBit j = false) ∧ j4_numberOfTrailingZeros (nI k) = some (nI i) := by
  have := allB_ok 12 0 ntz_B k (Nat.zero_le _) (by omega)
  unfold ntzP at this
  rw [Bool.or_eq_true] at this
  rcases this with e | e
  · exact absurd (by simpa using e) h0
  · obtain ⟨i, hi, e⟩ := List.any_eq_true.mp e
    rw [Bool.and_eq_true, Bool.and_eq_true] at e
    refine ⟨i, List.mem_range.mp hi, e.1, fun j hj => ?_, of_decide_eq_true e.2.2⟩
    have := allL e.2.1 hj
    simpa using this
def hasP (k : Nat) : Bool := (List.range 12).all (fun j => decide ((nI k >>> (nI j &&& 31)) &&& nI 1 = nI 1) == k.testBit j)
theorem hasb_B : allB hasP 12 0 = true := by decide +kernel
theorem hasb {m j : Nat} (h : m < 4096) (hj : j < 12) : decide ((nI m >>> (nI j &&& 31)) &&& nI 1 = nI 1) = m.testBit j := by
  have := allB_ok 12 0 hasb_B m (Nat.zero_le _) (by omega)
  have := allL this hj
  simpa using this
