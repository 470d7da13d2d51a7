/-! ===== counted loops ===== -/
theorem pr_for {S R : Type} {body : (S → Option R) → S → Option R} (C : Option R → Prop) (n : Nat) (Inv : Nat → S → Prop)
    (h : ∀ again i s, i ≤ n → Inv i s → (i < n → ∀ t, Inv (i + 1) t → C (again t)) → C (body again s)) : ∀ d i s, i ≤ n → Inv i s → n < i + d → C (lp body d s) := by
  intro d
  induction d with
  | zero => intro i s h1 _ h3; omega
  | succ d ih => intro i s h1 h2 h3; exact h (lp body d) i s h1 h2 (fun hlt t ht => ih (i + 1) t (by omega) ht (by omega))
theorem pr2_for {S S' R R' : Type} {body : (S → Option R) → S → Option R} {body' : (S' → Option R') → S' → Option R'} (C : Option R → Option R' → Prop) (n : Nat) (Inv : Nat → S → S' → Prop)
    (h : ∀ again again' i s s', i ≤ n → Inv i s s' → (i < n → ∀ t t', Inv (i + 1) t t' → C (again t) (again' t')) → C (body again s) (body' again' s')) : ∀ d d' i s s', i ≤ n → Inv i s s' → n < i + d → n < i + d' → C (lp body d s) (lp body' d' s') := by
  intro d
  induction d with
  | zero => intro d' i s s' h1 _ h3; omega
  | succ d ih =>
    intro d' i s s' h1 h2 h3 h4
    cases d' with
    | zero => omega
    | succ d' => exact h (lp body d) (lp body' d') i s s' h1 h2 (fun hlt t t' ht => ih d' (i + 1) t t' (by omega) ht (by omega) (by omega))
theorem fu {n i : Nat} (h : n < 20000) : n < i + fuel := Nat.lt_of_lt_of_le h (Nat.le_add_left _ _)
theorem ok_for {S R : Type} {body : (S → Option R) → S → Option R} {Q : R → Prop} (n : Nat) (Inv : Nat → S → Prop) (hn : n < 20000)
    (h : ∀ again i s, i ≤ n → Inv i s → (i < n → ∀ t, Inv (i + 1) t → ok (again t) Q) → ok (body again s) Q) {s : S} (h0 : Inv 0 s) : ok (lp body fuel s) Q := pr_for (fun o => ok o Q) n Inv h fuel 0 s (Nat.zero_le _) h0 (fu hn)
theorem ok2_for {S S' R R' : Type} {body : (S → Option R) → S → Option R} {body' : (S' → Option R') → S' → Option R'} {Q : R → R' → Prop} (n : Nat) (Inv : Nat → S → S' → Prop) (hn : n < 20000)
    (h : ∀ again again' i s s', i ≤ n → Inv i s s' → (i < n → ∀ t t', Inv (i + 1) t t' → ok2 (again t) (again' t') Q) → ok2 (body again s) (body' again' s') Q) {s : S} {s' : S'} (h0 : Inv 0 s s') : ok2 (lp body fuel s) (lp body' fuel s') Q := pr2_for (fun o p => ok2 o p Q) n Inv h fuel fuel 0 s s' (Nat.zero_le _) h0 (fu hn) (fu hn)
theorem ok2_forl {S R R' : Type} {body : (S → Option R) → S → Option R} {p : Option R'} {Q : R → R' → Prop} (n : Nat) (Inv : Nat → S → Prop) (hn : n < 20000)
    (h : ∀ again i s, i ≤ n → Inv i s → (i < n → ∀ t, Inv (i + 1) t → ok2 (again t) p Q) → ok2 (body again s) p Q) {s : S} (h0 : Inv 0 s) : ok2 (lp body fuel s) p Q := pr_for (fun o => ok2 o p Q) n Inv h fuel 0 s (Nat.zero_le _) h0 (fu hn)
theorem ok2_forr {S R R' : Type} {body : (S → Option R') → S → Option R'} {o : Option R} {Q : R → R' → Prop} (n : Nat) (Inv : Nat → S → Prop) (hn : n < 20000)
    (h : ∀ again i s, i ≤ n → Inv i s → (i < n → ∀ t, Inv (i + 1) t → ok2 o (again t) Q) → ok2 o (body again s) Q) {s : S} (h0 : Inv 0 s) : ok2 o (lp body fuel s) Q := pr_for (fun p => ok2 o p Q) n Inv h fuel 0 s (Nat.zero_le _) h0 (fu hn)
theorem eq_for {S R : Type} {body : (S → Option R) → S → Option R} {v : Option R} (n : Nat) (Inv : Nat → S → Prop) (hn : n < 20000)
    (h : ∀ again i s, i ≤ n → Inv i s → (i < n → ∀ t, Inv (i + 1) t → again t = v) → body again s = v) {s : S} (h0 : Inv 0 s) : lp body fuel s = v := pr_for (fun o => o = v) n Inv h fuel 0 s (Nat.zero_le _) h0 (fu hn)
theorem div_nI {a c : Nat} (ha : a < 2 ^ 31) (hc : 0 < c) (hc2 : c < 2 ^ 31) : idivO (nI a) (nI c) = some (nI (a / c)) := by
  unfold idivO
  rw [if_neg (nI_ne0 hc hc2), pk_div ha hc hc2]
theorem rem_nI {a c : Nat} (ha : a < 2 ^ 31) (hc : 0 < c) (hc2 : c < 2 ^ 31) : iremO (nI a) (nI c) = some (nI (a % c)) := by
  unfold iremO irm
  rw [if_neg (nI_ne0 hc hc2), pk_rem ha hc hc2]
theorem le_iff {a b : Nat} (ha : a < 2 ^ 31) (hb : b < 2 ^ 31) (h : nI a ≤ nI b) : a ≤ b := (nI_leI ha hb).mp h
theorem nle_iff {a b : Nat} (ha : a < 2 ^ 31) (hb : b < 2 ^ 31) (h : ¬ nI a ≤ nI b) : b < a := by
  rw [nI_leI ha hb] at h; omega
theorem lt_iff {a b : Nat} (ha : a < 2 ^ 31) (hb : b < 2 ^ 31) (h : nI a < nI b) : a < b := (nI_ltI ha hb).mp h
theorem nlt_iff {a b : Nat} (ha : a < 2 ^ 31) (hb : b < 2 ^ 31) (h : ¬ nI a < nI b) : b ≤ a := by
  rw [nI_ltI ha hb] at h; omega
theorem ok2_jgenr {S α β : Type} {K : S → Option β} {f : (S → Option β) → Option β} {o : Option α} {Q : α → β → Prop} (h : ∀ k, k = K → ok2 o (f k) Q) : ok2 o (jn K f) Q := h K rfl
theorem ok_jgen {S α : Type} {K : S → Option α} {f : (S → Option α) → Option α} {Q : α → Prop} (h : ∀ k, k = K → ok (f k) Q) : ok (jn K f) Q := h K rfl
