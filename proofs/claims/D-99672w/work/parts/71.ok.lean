/-! ===== pure words: what comes to an end, and how ===== -/
def ok {α : Type} (o : Option α) (Q : α → Prop) : Prop := ∃ r, o = some r ∧ Q r
theorem ok_some {α : Type} {r : α} {Q : α → Prop} (h : Q r) : ok (some r) Q := ⟨r, rfl, h⟩
theorem ok_mono {α : Type} {o : Option α} {Q Q' : α → Prop} (h : ok o Q) (hq : ∀ r, Q r → Q' r) : ok o Q' := by
  obtain ⟨r, h1, h2⟩ := h
  exact ⟨r, h1, hq r h2⟩
theorem ok_bind {α β : Type} {o : Option α} {k : α → Option β} {Q : β → Prop} (h : ok o (fun r => ok (k r) Q)) : ok (o.bind k) Q := by
  obtain ⟨r, rfl, h2⟩ := h
  exact h2
theorem ok_bind' {α β : Type} {o : Option α} {k : α → Option β} {Q : β → Prop} {Q' : α → Prop} (h : ok o Q') (hk : ∀ r, Q' r → ok (k r) Q) : ok (o.bind k) Q := ok_bind (ok_mono h hk)
theorem ok_eq {α β : Type} {o : Option α} {r : α} {k : α → Option β} {Q : β → Prop} (h : o = some r) (hk : ok (k r) Q) : ok (o.bind k) Q := by
  rw [h]; exact hk
theorem ok_nm {α β : Type} {e : α} {k : α → Option β} {Q : β → Prop} (h : ok (k e) Q) : ok (nm e k) Q := h
theorem ok_jn {S R : Type} {k : S → Option R} {f : (S → Option R) → Option R} {Q : R → Prop} (J : S → Prop) (hk : ∀ j, J j → ok (k j) Q) (hf : ∀ k' : S → Option R, (∀ j, J j → ok (k' j) Q) → ok (f k') Q) : ok (jn k f) Q := hf k hk
theorem ok_ite {α : Type} {c : Prop} {inst : Decidable c} {a b : Option α} {Q : α → Prop} (h1 : c → ok a Q) (h2 : ¬ c → ok b Q) : ok (@ite _ c inst a b) Q := by
  by_cases h : c
  · rw [if_pos h]; exact h1 h
  · rw [if_neg h]; exact h2 h
theorem ok_t {α : Type} {c : Prop} {inst : Decidable c} {a b : Option α} {Q : α → Prop} (h : c) (h1 : ok a Q) : ok (@ite _ c inst a b) Q := by rw [if_pos h]; exact h1
theorem ok_f {α : Type} {c : Prop} {inst : Decidable c} {a b : Option α} {Q : α → Prop} (h : ¬ c) (h1 : ok b Q) : ok (@ite _ c inst a b) Q := by rw [if_neg h]; exact h1
theorem ok_chk {α : Type} {c : Prop} {o : Option α} {Q : α → Prop} (h : c) (h1 : ok o Q) : ok (chk c o) Q := by
  unfold chk
  rw [if_pos h]; exact h1
/-- a loop comes to its end: a number that falls -/
theorem ok_lp {S R : Type} {body : (S → Option R) → S → Option R} {Q : R → Prop} (Inv : S → Prop) (me : S → Nat)
    (h : ∀ again s, Inv s → (∀ t, Inv t → me t < me s → ok (again t) Q) → ok (body again s) Q) : ∀ n s, Inv s → me s < n → ok (lp body n s) Q := by
  intro n
  induction n with
  | zero => intro s _ hn; exact absurd hn (Nat.not_lt_zero _)
  | succ n ih => intro s hs hn; exact h (lp body n) s hs (fun t ht hlt => ih t ht (by omega))
/-- two computations, their ends beside one another -/
def ok2 {α β : Type} (o : Option α) (p : Option β) (Q : α → β → Prop) : Prop := ∃ r t, o = some r ∧ p = some t ∧ Q r t
theorem ok2_of {α β : Type} {o : Option α} {p : Option β} {Q : α → β → Prop} (h : ok o (fun r => ok p (Q r))) : ok2 o p Q := by
  obtain ⟨r, h1, t, h2, h3⟩ := h
  exact ⟨r, t, h1, h2, h3⟩
theorem ok2_ok {α β : Type} {o : Option α} {p : Option β} {Q : α → β → Prop} (h : ok2 o p Q) : ok o (fun r => ok p (Q r)) := by
  obtain ⟨r, t, h1, h2, h3⟩ := h
  exact ⟨r, h1, t, h2, h3⟩
theorem ok2_mono {α β : Type} {o : Option α} {p : Option β} {Q Q' : α → β → Prop} (h : ok2 o p Q) (hq : ∀ r t, Q r t → Q' r t) : ok2 o p Q' := by
  obtain ⟨r, t, h1, h2, h3⟩ := h
  exact ⟨r, t, h1, h2, hq r t h3⟩
theorem ok2_some {α β : Type} {r : α} {t : β} {Q : α → β → Prop} (h : Q r t) : ok2 (some r) (some t) Q := ⟨r, t, rfl, rfl, h⟩
theorem ok2_l {α β γ : Type} {o : Option α} {k : α → Option γ} {p : Option β} {Q : γ → β → Prop} (h : ok o (fun r => ok2 (k r) p Q)) : ok2 (o.bind k) p Q := by
  obtain ⟨r, rfl, h⟩ := h
  exact h
theorem ok2_r {α β γ : Type} {o : Option γ} {p : Option α} {k : α → Option β} {Q : γ → β → Prop} (h : ok p (fun r => ok2 o (k r) Q)) : ok2 o (p.bind k) Q := by
  obtain ⟨r, rfl, h⟩ := h
  exact h
/-- two calls at once -/
theorem ok2_b {α β γ δ : Type} {o : Option α} {k : α → Option γ} {p : Option β} {k' : β → Option δ} {Q : γ → δ → Prop} {Q' : α → β → Prop} (h : ok2 o p Q') (hk : ∀ r t, Q' r t → ok2 (k r) (k' t) Q) : ok2 (o.bind k) (p.bind k') Q := by
  obtain ⟨r, t, rfl, rfl, h⟩ := h
  exact hk r t h
theorem ok2_el {α β γ : Type} {o : Option α} {k : α → Option γ} {p : Option β} {Q : γ → β → Prop} {r : α} (h : o = some r) (hk : ok2 (k r) p Q) : ok2 (o.bind k) p Q := by rw [h]; exact hk
theorem ok2_er {α β γ : Type} {o : Option γ} {p : Option α} {k : α → Option β} {Q : γ → β → Prop} {r : α} (h : p = some r) (hk : ok2 o (k r) Q) : ok2 o (p.bind k) Q := by rw [h]; exact hk
theorem ok2_nl {α β γ : Type} {e : α} {k : α → Option γ} {p : Option β} {Q : γ → β → Prop} (h : ok2 (k e) p Q) : ok2 (nm e k) p Q := h
theorem ok2_nr {α β γ : Type} {e : α} {k : α → Option β} {o : Option γ} {Q : γ → β → Prop} (h : ok2 o (k e) Q) : ok2 o (nm e k) Q := h
theorem ok2_tl {α β : Type} {c : Prop} {inst : Decidable c} {a b : Option α} {p : Option β} {Q : α → β → Prop} (h : c) (h1 : ok2 a p Q) : ok2 (@ite _ c inst a b) p Q := by rw [if_pos h]; exact h1
theorem ok2_fl {α β : Type} {c : Prop} {inst : Decidable c} {a b : Option α} {p : Option β} {Q : α → β → Prop} (h : ¬ c) (h1 : ok2 b p Q) : ok2 (@ite _ c inst a b) p Q := by rw [if_neg h]; exact h1
theorem ok2_tr {α β : Type} {c : Prop} {inst : Decidable c} {a b : Option β} {o : Option α} {Q : α → β → Prop} (h : c) (h1 : ok2 o a Q) : ok2 o (@ite _ c inst a b) Q := by rw [if_pos h]; exact h1
theorem ok2_fr {α β : Type} {c : Prop} {inst : Decidable c} {a b : Option β} {o : Option α} {Q : α → β → Prop} (h : ¬ c) (h1 : ok2 o b Q) : ok2 o (@ite _ c inst a b) Q := by rw [if_neg h]; exact h1
theorem ok2_il {α β : Type} {c : Prop} {inst : Decidable c} {a b : Option α} {p : Option β} {Q : α → β → Prop} (h1 : c → ok2 a p Q) (h2 : ¬ c → ok2 b p Q) : ok2 (@ite _ c inst a b) p Q := by
  by_cases h : c
  · rw [if_pos h]; exact h1 h
  · rw [if_neg h]; exact h2 h
theorem ok2_ir {α β : Type} {c : Prop} {inst : Decidable c} {a b : Option β} {o : Option α} {Q : α → β → Prop} (h1 : c → ok2 o a Q) (h2 : ¬ c → ok2 o b Q) : ok2 o (@ite _ c inst a b) Q := by
  by_cases h : c
  · rw [if_pos h]; exact h1 h
  · rw [if_neg h]; exact h2 h
/-- the same question on both sides -/
theorem ok2_ii {α β : Type} {c d : Prop} {inst : Decidable c} {inst' : Decidable d} {a b : Option α} {a' b' : Option β} {Q : α → β → Prop} (hcd : c ↔ d) (h1 : c → d → ok2 a a' Q) (h2 : ¬ c → ¬ d → ok2 b b' Q) : ok2 (@ite _ c inst a b) (@ite _ d inst' a' b') Q := by
  by_cases h : c
  · rw [if_pos h, if_pos (hcd.mp h)]; exact h1 h (hcd.mp h)
  · rw [if_neg h, if_neg (fun q => h (hcd.mpr q))]; exact h2 h (fun q => h (hcd.mpr q))
theorem ok2_jl {S α β : Type} {k : S → Option α} {f : (S → Option α) → Option α} {p : Option β} {Q : α → β → Prop} (h : ok2 (f k) p Q) : ok2 (jn k f) p Q := h
theorem ok2_jr {S α β : Type} {k : S → Option β} {f : (S → Option β) → Option β} {o : Option α} {Q : α → β → Prop} (h : ok2 o (f k) Q) : ok2 o (jn k f) Q := h
theorem ok2_lp {S S' R R' : Type} {body : (S → Option R) → S → Option R} {body' : (S' → Option R') → S' → Option R'} {Q : R → R' → Prop} (Inv : S → S' → Prop) (me : S → Nat)
    (h : ∀ again again' s s', Inv s s' → (∀ t t', Inv t t' → me t < me s → ok2 (again t) (again' t') Q) → ok2 (body again s) (body' again' s') Q) : ∀ n n' s s', Inv s s' → me s < n → me s < n' → ok2 (lp body n s) (lp body' n' s') Q := by
  intro n
  induction n with
  | zero => intro n' s s' _ hn; exact absurd hn (Nat.not_lt_zero _)
  | succ n ih =>
    intro n' s s' hs hn hn'
    cases n' with
    | zero => exact absurd hn' (Nat.not_lt_zero _)
    | succ n' => exact h (lp body n) (lp body' n') s s' hs (fun t t' ht hlt => ih n' t t' ht (by omega) (by omega))
/-! reading and writing -/
theorem rd_eq {μ : Mem} {k n i : Nat} (h : i < n) (hn : n < 2 ^ 31) : rd μ k n (nI i) = some (μ k i) := by
  unfold rd
  rw [if_neg (nI_in h hn), nI_clamp (by omega)]
theorem wr_eq {μ : Mem} {k n i : Nat} {x : Int32} (h : i < n) (hn : n < 2 ^ 31) : wr μ k n (nI i) x = some (up2 μ k i x) := by
  unfold wr
  rw [if_neg (nI_in h hn), nI_clamp (by omega)]
theorem ix_eq {n i : Nat} (h : i < n) (hn : n < 2 ^ 31) : ix n (nI i) = some i := by
  unfold ix
  rw [if_neg (nI_in h hn), nI_clamp (by omega)]
theorem up2_same (μ : Mem) (k i : Nat) (x : Int32) : up2 μ k i x k i = x := by
  unfold up2
  rw [if_pos rfl]
  exact if_pos rfl
theorem up2_ne {μ : Mem} {k i k' i' : Nat} {x : Int32} (h : k' ≠ k ∨ i' ≠ i) : up2 μ k i x k' i' = μ k' i' := by
  unfold up2
  by_cases hk : k' = k
  · rw [if_pos hk]
    subst hk
    exact if_neg (by rcases h with h | h; exact absurd rfl h; exact h)
  · rw [if_neg hk]
theorem up2_k {μ : Mem} {k i k' : Nat} {x : Int32} (h : k' ≠ k) : up2 μ k i x k' = μ k' := by
  unfold up2
  rw [if_neg h]
theorem bI_0 {b : Bool} : bI b = 0 ↔ b = false := by cases b <;> decide
theorem bI_inj {a b : Bool} : bI a = bI b ↔ a = b := by cases a <;> cases b <;> decide
theorem isIn_x (x l m : Int32) : x0_isIn x l m = some (decide (l ≤ x ∧ x ≤ m)) := by
  unfold x0_isIn
  by_cases h1 : x < l
  · rw [if_pos h1, decide_eq_false]
    intro h
    exact absurd h1 (Int32.not_lt.mpr h.1)
  · rw [if_neg h1]
    by_cases h2 : m < x
    · rw [if_pos h2, decide_eq_false]
      intro h
      exact absurd h2 (Int32.not_lt.mpr h.2)
    · rw [if_neg h2, decide_eq_true]
      exact ⟨Int32.not_lt.mp h1, Int32.not_lt.mp h2⟩
theorem isIn_m (μ : Mem) (x l m : Int32) : m_isIn μ x l m = some (decide (l ≤ x ∧ x ≤ m)) := isIn_x x l m
/-- a number between two others, both not negative -/
theorem in_nI {x : Int32} {l m : Nat} (hl : l < 2 ^ 31) (hm : m < 2 ^ 31) (h : nI l ≤ x ∧ x ≤ nI m) : ∃ n, l ≤ n ∧ n ≤ m ∧ x = nI n := by
  have h0 : ¬ x < 0 := by
    have : (0 : Int32) ≤ x := by
      rw [← nI_0]
      exact Int32.le_trans (nI_le (Nat.zero_le l) (by omega)) h.1
    exact Int32.not_lt.mpr this
  obtain ⟨j, hj, rfl⟩ := nI_of h0
  exact ⟨j, (nI_leI (by omega) hj).mp h.1, (nI_leI hj hm).mp h.2, rfl⟩
