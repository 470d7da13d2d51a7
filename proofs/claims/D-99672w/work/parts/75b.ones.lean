/-! ===== how many are in a small set ===== -/
def pc (k : Nat) : Nat := fb_ct (fun i => k.testBit i) 12
def onesP (k : Nat) : Bool := decide (j4_bitCount (nI k) = some (nI (pc k))) && decide (m_onesOf (fun _ _ => 0) (nI k) = some (nI (pc k)))
theorem ones_B : allB onesP 12 0 = true := by decide +kernel
theorem bits_x {k : Nat} (h : k < 4096) : j4_bitCount (nI k) = some (nI (pc k)) := by
  have := allB_ok 12 0 ones_B k (Nat.zero_le _) (by omega)
  unfold onesP at this
  rw [Bool.and_eq_true] at this
  exact of_decide_eq_true this.1
theorem ones_m (μ : Mem) {k : Nat} (h : k < 4096) : m_onesOf μ (nI k) = some (nI (pc k)) := by
  have := allB_ok 12 0 ones_B k (Nat.zero_le _) (by omega)
  unfold onesP at this
  rw [Bool.and_eq_true] at this
  exact of_decide_eq_true this.2
theorem pc_le (k : Nat) : pc k ≤ 12 := fb_ct_le _ _
theorem low_one {p : Nat → Bool} {i j : Nat} (hi : p i = true) (hi2 : ∀ k, k < i → p k = false) (hj : p j = true) (hj2 : ∀ k, k < j → p k = false) : i = j := by
  rcases Nat.lt_trichotomy i j with h | h | h
  · rw [hj2 i h] at hi; cases hi
  · exact h
  · rw [hi2 j h] at hj; cases hj
