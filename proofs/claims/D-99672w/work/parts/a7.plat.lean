/-! ===== the plate ===== -/
def shr (p : Nat → Nat) (i j : Nat) : Nat := fb_sm (fun t => p (i + t)) (j - i)
theorem shr_s (p : Nat → Nat) {i j : Nat} (h : i ≤ j) : shr p i (j + 1) = shr p i j + p j := by
  unfold shr
  rw [show j + 1 - i = (j - i) + 1 by omega, fb_sm_succ, show i + (j - i) = j by omega]
theorem shr_le {p : Nat → Nat} {n i j : Nat} (hp : ∀ t, t < n → p t ≤ 99) (hn : n ≤ 9) (h : j ≤ n) : shr p i j ≤ 891 := by
  have := fb_sm_bound (f := fun t => p (i + t)) (c := 99) (n := j - i) (fun t ht => hp _ (by omega))
  unfold shr
  have : (j - i) * 99 ≤ 9 * 99 := Nat.mul_le_mul_right _ (by omega)
  omega
def plv (p : Nat → Nat) (prev : Nat → Int32) (fr : Nat) : Nat → Int32
  | 0 => -1
  | j + 1 => imax (plv p prev fr j) (imin (nI (shr p fr (fr + 1 + j))) (prev (fr + 1 + j)))
def pT (p : Nat → Nat) (n : Nat) (far : Int32) : Nat → Nat → Int32
  | 0, fr => if fr = n then far else -1
  | b + 1, fr => plv p (pT p n far b) fr (n - fr)
theorem plv_cong {p : Nat → Nat} {f g : Nat → Int32} {fr : Nat} : ∀ {m : Nat}, (∀ j, j < m → imin (nI (shr p fr (fr + 1 + j))) (f (fr + 1 + j)) = imin (nI (shr p fr (fr + 1 + j))) (g (fr + 1 + j))) → plv p f fr m = plv p g fr m
  | 0, _ => rfl
  | m + 1, h => by
    unfold plv
    rw [plv_cong (fun j hj => h j (by omega)), h m (by omega)]
theorem pT_eq {p : Nat → Nat} {n : Nat} (hp : ∀ t, t < n → p t ≤ 99) (hn : n ≤ 9) : ∀ b fr, pT p n 1000000 (b + 1) fr = pT p n 100000000 (b + 1) fr := by
  intro b
  induction b with
  | zero =>
    intro fr
    unfold pT
    refine plv_cong (fun j hj => ?_)
    have hs := shr_le (i := fr) (j := fr + 1 + j) hp hn (by omega)
    unfold pT
    by_cases e : fr + 1 + j = n
    · rw [if_pos e, if_pos e]
      unfold imin
      have a1 : ¬ (1000000 : Int32) < nI (shr p fr (fr + 1 + j)) := nI_nlt (a := 1000000) (by omega) (by decide)
      have a2 : ¬ (100000000 : Int32) < nI (shr p fr (fr + 1 + j)) := nI_nlt (a := 100000000) (by omega) (by decide)
      rw [if_neg a1, if_neg a2]
    · rw [if_neg e, if_neg e]
  | succ b ih =>
    intro fr
    have e1 : ∀ far, pT p n far (b + 1 + 1) fr = plv p (pT p n far (b + 1)) fr (n - fr) := fun _ => rfl
    rw [e1, e1]
    exact plv_cong (fun j hj => by rw [ih])
theorem imax_cases (a b : Int32) : imax a b = a ∨ imax a b = b := by
  unfold imax
  split
  · exact Or.inr rfl
  · exact Or.inl rfl
theorem imax_ge (a b : Int32) : a ≤ imax a b ∧ b ≤ imax a b := by
  unfold imax
  split
  · next h => exact ⟨(fa_of_lt h).1, Int32.le_refl _⟩
  · next h => exact ⟨Int32.le_refl _, fa_of_nlt h⟩
/-- the greatest is one of them, or none -/
theorem plv_at {p : Nat → Nat} {f : Nat → Int32} {fr : Nat} : ∀ m, (plv p f fr m = -1 ∨ ∃ j, j < m ∧ imin (nI (shr p fr (fr + 1 + j))) (f (fr + 1 + j)) = plv p f fr m) ∧ (-1 : Int32) ≤ plv p f fr m ∧ ∀ j, j < m → imin (nI (shr p fr (fr + 1 + j))) (f (fr + 1 + j)) ≤ plv p f fr m
  | 0 => ⟨Or.inl rfl, Int32.le_refl _, fun j hj => by omega⟩
  | m + 1 => by
    obtain ⟨h1, h2, h3⟩ := plv_at (p := p) (f := f) (fr := fr) m
    have hg := imax_ge (plv p f fr m) (imin (nI (shr p fr (fr + 1 + m))) (f (fr + 1 + m)))
    unfold plv
    refine ⟨?_, Int32.le_trans h2 hg.1, fun j hj => ?_⟩
    · rcases imax_cases (plv p f fr m) (imin (nI (shr p fr (fr + 1 + m))) (f (fr + 1 + m))) with e | e
      · rw [e]
        rcases h1 with h1 | ⟨j, hj, h1⟩
        · exact Or.inl h1
        · exact Or.inr ⟨j, by omega, h1⟩
      · rw [e]
        exact Or.inr ⟨m, by omega, rfl⟩
    · by_cases e : j = m
      · subst e; exact hg.2
      · exact Int32.le_trans (h3 j (by omega)) hg.1
theorem pT_ge (p : Nat → Nat) (n : Nat) {far : Int32} (hf : (-1 : Int32) ≤ far) : ∀ b fr, (-1 : Int32) ≤ pT p n far b fr
  | 0, fr => by
    unfold pT
    split
    · exact hf
    · exact Int32.le_refl _
  | b + 1, fr => (plv_at _).2.1
section PLATE
variable {I μ : Mem} {z n : Nat} {p : Nat → Nat}
theorem share_x (hn : n ≤ 9) (hp : ∀ t, t < n → I (z + 157 + t) 0 = nI (p t)) {i j : Nat} (hij : i ≤ j) (hj : j ≤ n) : x0_share I z (nI i) (nI j) = some (nI (shr p i j)) := by
  unfold x0_share
  refine eq_for (j - i) (fun t s => s = (nI (shr p i (i + t)), nI (i + t))) (by omega) ?_ (by rw [Nat.add_zero]; unfold shr; rw [Nat.sub_self]; rfl)
  rintro again t _ ht rfl ih
  dsimp only
  by_cases c : j ≤ i + t
  · rw [if_pos (nI_le c (by omega)), show i + t = j by omega]
  · rw [if_neg (nI_ge (by omega) (by omega))]
    unfold x2_first
    rw [ix_eq (i := i + t) (by omega) (by decide), Option.bind_some, rd_eq (i := 0) (by decide) (by decide), Option.bind_some, Option.bind_some, show z + 155 + 2 + (i + t) = z + 157 + (i + t) by omega, hp _ (by omega), nI_add, nI_add, ← shr_s p (by omega)]
    exact ih (by omega) _ rfl
theorem share_m (hn : n ≤ 9) (hp : ∀ t, t < n → μ 43 t = nI (p t)) {i j : Nat} (hij : i ≤ j) (hj : j ≤ n) : m_piecesOver μ (nI i) (nI j) = some (nI (shr p i j)) := by
  unfold m_piecesOver
  refine eq_for (j - i) (fun t s => s = (nI (shr p i (i + t)), nI (i + t))) (by omega) ?_ (by rw [Nat.add_zero]; unfold shr; rw [Nat.sub_self]; rfl)
  rintro again t _ ht rfl ih
  dsimp only
  by_cases c : j ≤ i + t
  · rw [if_pos (nI_le c (by omega)), show i + t = j by omega]
  · rw [if_neg (nI_ge (by omega) (by omega)), rd_eq (i := i + t) (by omega) (by decide), Option.bind_some, hp _ (by omega), nI_add, nI_add, ← shr_s p (by omega)]
    exact ih (by omega) _ rfl
theorem lays_x (hn : n ≤ 9) (en : I (z + 155) 1 = nI n) (hp : ∀ t, t < n → I (z + 157 + t) 0 = nI (p t)) {k : Nat} (hk : k ≤ n) : ok (x0_laysShares I z (nI k)) (fun J => (∀ b fr, b ≤ k → fr ≤ n → J (z + 2426 + b) fr = pT p n 1000000 b fr) ∧ ∀ a, ¬ (z + 2426 ≤ a ∧ a < z + 2436) → J a = I a) := by
  unfold x0_laysShares
  rw [en]
  refine ok_for (k + 1) (fun b s => s.1 = nI b ∧ (∀ b' fr, b' < b → fr ≤ n → s.2 (z + 2426 + b') fr = pT p n 1000000 b' fr) ∧ ∀ a, ¬ (z + 2426 ≤ a ∧ a < z + 2436) → s.2 a = I a) (by omega) ?_ ⟨rfl, fun _ _ h => by omega, fun _ _ => rfl⟩
  rintro again b ⟨_, J⟩ hb ⟨e, h1, h2⟩ ih
  dsimp only at e h1 h2 ⊢
  subst e
  refine ok_ite (fun c => ok_some ?_) (fun c => ?_)
  · have := lt_iff (by omega) (by omega) c
    exact ⟨fun b' fr hb' hf => h1 b' fr (by omega) hf, h2⟩
  have hbk := nlt_iff (by omega) (by omega) c
  refine ok_for (n + 1) (fun f s => s.1 = nI f ∧ (∀ b' fr, b' < b → fr ≤ n → s.2 (z + 2426 + b') fr = pT p n 1000000 b' fr) ∧ (∀ fr, fr < f → s.2 (z + 2426 + b) fr = pT p n 1000000 b fr) ∧ ∀ a, ¬ (z + 2426 ≤ a ∧ a < z + 2436) → s.2 a = I a) (by omega) ?_ ⟨rfl, h1, fun _ h => by omega, h2⟩
  clear h1 h2
  rintro ag f ⟨_, J⟩ hf ⟨e, h1, h3, h2⟩ ih2
  dsimp only at e h1 h3 h2 ⊢
  subst e
  refine ok_ite (fun c2 => ?_) (fun c2 => ?_)
  · have := lt_iff (by omega) (by omega) c2
    rw [nI_add]
    refine ih (by omega) _ ⟨rfl, fun b' fr hb' hfr => ?_, h2⟩
    dsimp only
    by_cases e : b' = b
    · subst e; exact h3 fr (by omega)
    · exact h1 b' fr (by omega) hfr
  have hfn := nlt_iff (by omega) (by omega) c2
  rw [ix_eq (i := b) (by omega) (by decide), Option.bind_some, jn_eq, nI_add]
  dsimp only
  rw [wr_eq (i := f) (by omega) (by decide), Option.bind_some, wr_eq (i := f) (by omega) (by decide), Option.bind_some]
  -- what goes on, from the first value on
  have go : ∀ J2 : Mem, (∀ b' fr, b' < b → fr ≤ n → J2 (z + 2426 + b') fr = pT p n 1000000 b' fr) → (∀ fr, fr < f → J2 (z + 2426 + b) fr = pT p n 1000000 b fr) → J2 (z + 2426 + b) f = pT p n 1000000 b f → (∀ a, ¬ (z + 2426 ≤ a ∧ a < z + 2436) → J2 a = I a) → ok (ag (nI (f + 1), J2)) (fun J => (∀ b fr, b ≤ k → fr ≤ n → J (z + 2426 + b) fr = pT p n 1000000 b fr) ∧ ∀ a, ¬ (z + 2426 ≤ a ∧ a < z + 2436) → J a = I a) := fun J2 g1 g2 g3 g4 => ih2 (by omega) _ ⟨rfl, g1, fun fr hfr => by
      dsimp only
      by_cases e : fr = f
      · subst e; exact g3
      · exact g2 fr (by omega), g4⟩
  have loop : ∀ v : Int32, (b = 0 → v = pT p n 1000000 0 f) → (b ≠ 0 → v = -1) → ok (lp (fun (again14 : Int32 × Mem → Option Mem) (j13 : Int32 × Mem) => if (nI n) < j13.1 then ag (nI (f + 1), j13.2) else if (nI b) ≤ 0 then ag (nI (f + 1), j13.2) else (some b).bind fun i16 => (some b).bind fun i18 => (rd j13.2 (z + 2426 + i18) 10 (nI f)).bind fun v20 => (x0_share j13.2 z (nI f) j13.1).bind fun r21 => (ix 10 ((nI b) - (nI 1))).bind fun i23 => (rd j13.2 (z + 2426 + i23) 10 j13.1).bind fun v25 => (wr j13.2 (z + 2426 + i16) 10 (nI f) (imax v20 (imin r21 v25))).bind fun I26 => again14 ((j13.1 + (nI 1)), I26)) fuel (nI (f + 1), up2 J (z + 2426 + b) f v)) (fun J => (∀ b fr, b ≤ k → fr ≤ n → J (z + 2426 + b) fr = pT p n 1000000 b fr) ∧ ∀ a, ¬ (z + 2426 ≤ a ∧ a < z + 2436) → J a = I a) := by
    intro v hv0 hv1
    by_cases b0 : b = 0
    · rw [fuel_10, lp_s]
      dsimp only
      have gg := go (up2 J (z + 2426 + b) f v) (fun b' fr hb' hfr => by omega) (fun fr hfr => by rw [up2_ne (by omega)]; exact h3 fr hfr) (by rw [up2_same, b0]; exact hv0 b0) (fun a ha => by rw [up2_k (by omega)]; exact h2 a ha)
      refine ok_ite (fun _ => gg) (fun _ => ok_t ?_ gg)
      rw [b0]; decide
    · obtain ⟨b1, rfl⟩ : ∃ q, b = q + 1 := ⟨b - 1, by omega⟩
      refine ok_for (n - f) (fun t s => s.1 = nI (f + 1 + t) ∧ (∀ b' fr, b' < b1 + 1 → fr ≤ n → s.2 (z + 2426 + b') fr = pT p n 1000000 b' fr) ∧ (∀ fr, fr < f → s.2 (z + 2426 + (b1 + 1)) fr = pT p n 1000000 (b1 + 1) fr) ∧ s.2 (z + 2426 + (b1 + 1)) f = plv p (pT p n 1000000 b1) f t ∧ ∀ a, ¬ (z + 2426 ≤ a ∧ a < z + 2436) → s.2 a = I a) (by omega) ?_ ⟨rfl, fun b' fr hb' hfr => by dsimp only; rw [up2_ne (by omega)]; exact h1 b' fr hb' hfr, fun fr hfr => by dsimp only; rw [up2_ne (by omega)]; exact h3 fr hfr, by dsimp only; rw [up2_same, hv1 (by omega)]; rfl, fun a ha => by dsimp only; rw [up2_k (by omega)]; exact h2 a ha⟩
      rintro ar t ⟨_, J2⟩ ht ⟨e, g1, g2, g3, g4⟩ ih3
      dsimp only at e g1 g2 g3 g4 ⊢
      subst e
      refine ok_ite (fun c3 => ?_) (fun c3 => ?_)
      · have := lt_iff (by omega) (by omega) c3
        exact go J2 g1 g2 (by rw [g3, show t = n - f by omega]; rfl) g4
      · have hlt := nlt_iff (by omega) (by omega) c3
        rw [if_neg (nI_nle (by omega) (by omega)), Option.bind_some, Option.bind_some, rd_eq (i := f) (by omega) (by decide), Option.bind_some, share_x hn (fun t ht => by rw [g4 _ (by omega)]; exact hp t ht) (by omega) (by omega), Option.bind_some, nI_sub (by omega), Nat.add_sub_cancel, ix_eq (i := b1) (by omega) (by decide), Option.bind_some, rd_eq (i := f + 1 + t) (by omega) (by decide), Option.bind_some, wr_eq (i := f) (by omega) (by decide), Option.bind_some, nI_add, g3, g1 b1 (f + 1 + t) (by omega) (by omega)]
        refine ih3 (by omega) _ ⟨rfl, fun b' fr hb' hfr => by dsimp only; rw [up2_k (by omega)]; exact g1 b' fr hb' hfr, fun fr hfr => by dsimp only; rw [up2_ne (by omega)]; exact g2 fr hfr, by dsimp only; rw [up2_same]; rfl, fun a ha => by dsimp only; rw [up2_k (by omega)]; exact g4 a ha⟩
  by_cases b0 : b = 0
  · by_cases fn : f = n
    · rw [if_pos (by rw [b0]; rfl), if_pos (by rw [fn])]
      exact loop _ (fun _ => by unfold pT; rw [if_pos fn]) (fun h => absurd b0 h)
    · rw [if_pos (by rw [b0]; rfl), if_neg (by rw [nI_eq (by omega) (by omega)]; exact fn)]
      exact loop _ (fun _ => by unfold pT; rw [if_neg fn]) (fun h => absurd b0 h)
  · rw [if_neg (nI_ne0 (by omega) (by omega))]
    exact loop _ (fun h => absurd h b0) (fun _ => rfl)
theorem lays_m (hn : n ≤ 9) (en : μ 42 0 = nI n) (hp : ∀ t, t < n → μ 43 t = nI (p t)) : ok (m_findsShares μ) (fun ν => (∀ b fr, b < 10 → fr ≤ n → ν 44 (10 * b + fr) = pT p n 100000000 b fr) ∧ ∀ k, k ≠ 44 → ν k = μ k) := by
  unfold m_findsShares
  refine ok_for 10 (fun b s => s.1 = nI b ∧ (∀ b' fr, b' < b → fr ≤ n → s.2 44 (10 * b' + fr) = pT p n 100000000 b' fr) ∧ ∀ k, k ≠ 44 → s.2 k = μ k) (by omega) ?_ ⟨rfl, fun _ _ h => by omega, fun _ _ => rfl⟩
  rintro again b ⟨_, ν⟩ hb ⟨e, h1, h2⟩ ih
  dsimp only at e h1 h2 ⊢
  subst e
  refine ok_ite (fun c => ok_some ?_) (fun c => ?_)
  · have := le_iff (by omega) (by omega) c
    exact ⟨fun b' fr hb' hf => h1 b' fr (by omega) hf, h2⟩
  have hb10 := nle_iff (by omega) (by omega) c
  refine ok_for (n + 1) (fun f s => s.1 = nI f ∧ (∀ b' fr, b' < b → fr ≤ n → s.2 44 (10 * b' + fr) = pT p n 100000000 b' fr) ∧ (∀ fr, fr < f → s.2 44 (10 * b + fr) = pT p n 100000000 b fr) ∧ ∀ k, k ≠ 44 → s.2 k = μ k) (by omega) ?_ ⟨rfl, h1, fun _ h => by omega, h2⟩
  clear h1 h2
  rintro ag f ⟨_, ν⟩ hf ⟨e, h1, h3, h2⟩ ih2
  dsimp only at e h1 h3 h2 ⊢
  subst e
  have e42 : ν 42 0 = nI n := by rw [h2 42 (by decide), en]
  refine ok_ite (fun c2 => ?_) (fun c2 => ?_)
  · rw [e42] at c2
    have := lt_iff (by omega) (by omega) c2
    rw [nI_add]
    refine ih (by omega) _ ⟨rfl, fun b' fr hb' hfr => ?_, h2⟩
    dsimp only
    by_cases e : b' = b
    · subst e; exact h3 fr (by omega)
    · exact h1 b' fr (by omega) hfr
  rw [e42] at c2
  have hfn := nlt_iff (by omega) (by omega) c2
  simp only [jn_eq, e42]
  rw [pk_mul, nI_add, nI_add]
  have fin : ∀ v : Int32, v = pT p n 100000000 b f → ok ((wr ν 44 100 (nI (10 * b + f)) v).bind fun μ13 => ag (nI (f + 1), μ13)) (fun ν => (∀ b fr, b < 10 → fr ≤ n → ν 44 (10 * b + fr) = pT p n 100000000 b fr) ∧ ∀ k, k ≠ 44 → ν k = μ k) := by
    rintro _ rfl
    rw [wr_eq (i := 10 * b + f) (by omega) (by decide), Option.bind_some]
    refine ih2 (by omega) _ ⟨rfl, fun b' fr hb' hfr => by dsimp only; rw [up2_ne (by omega)]; exact h1 b' fr hb' hfr, fun fr hfr => ?_, fun k hk => by dsimp only; rw [up2_k hk]; exact h2 k hk⟩
    dsimp only
    by_cases e : fr = f
    · subst e; rw [up2_same]
    · rw [up2_ne (by omega)]; exact h3 fr (by omega)
  have loop : ∀ v : Int32, (b = 0 → v = pT p n 100000000 0 f) → (b ≠ 0 → v = -1) → ok (lp (fun (again15 : Int32 × Int32 → Option Mem) (j14 : Int32 × Int32) => if (nI n) < j14.2 then (wr ν 44 100 (nI (10 * b + f)) j14.1).bind fun μ13 => ag (nI (f + 1), μ13) else if (nI b) ≤ 0 then (wr ν 44 100 (nI (10 * b + f)) j14.1).bind fun μ13 => ag (nI (f + 1), μ13) else (m_piecesOver ν (nI f) j14.2).bind fun r17 => (rd ν 44 100 (((nI 10) * ((nI b) - (nI 1))) + j14.2)).bind fun v18 => (m_lesser ν r17 v18).bind fun r19 => (m_greater ν j14.1 r19).bind fun r20 => again15 (r20, (j14.2 + (nI 1)))) fuel (v, nI (f + 1))) (fun ν => (∀ b fr, b < 10 → fr ≤ n → ν 44 (10 * b + fr) = pT p n 100000000 b fr) ∧ ∀ k, k ≠ 44 → ν k = μ k) := by
    intro v hv0 hv1
    by_cases b0 : b = 0
    · rw [fuel_10, lp_s]
      dsimp only
      have gg := fin v (by rw [b0]; exact hv0 b0)
      refine ok_ite (fun _ => gg) (fun _ => ok_t ?_ gg)
      rw [b0]; decide
    · obtain ⟨b1, rfl⟩ : ∃ q, b = q + 1 := ⟨b - 1, by omega⟩
      refine ok_for (n - f) (fun t s => s.1 = plv p (pT p n 100000000 b1) f t ∧ s.2 = nI (f + 1 + t)) (by omega) ?_ ⟨hv1 (by omega), rfl⟩
      rintro ar t ⟨_, _⟩ ht ⟨e1, e2⟩ ih3
      dsimp only at e1 e2 ⊢
      subst e1 e2
      refine ok_ite (fun c3 => ?_) (fun c3 => ?_)
      · have := lt_iff (by omega) (by omega) c3
        exact fin _ (by rw [show t = n - f by omega]; rfl)
      · have hlt := nlt_iff (by omega) (by omega) c3
        rw [if_neg (nI_nle (by omega) (by omega)), share_m hn (fun t ht => by rw [h2 43 (by decide)]; exact hp t ht) (by omega) (by omega), Option.bind_some, nI_sub (by omega), Nat.add_sub_cancel, pk_mul, nI_add, rd_eq (i := 10 * b1 + (f + 1 + t)) (by omega) (by decide), Option.bind_some, imin_lesser, Option.bind_some, imax_greater, Option.bind_some, nI_add, h1 b1 (f + 1 + t) (by omega) (by omega)]
        exact ih3 (by omega) _ ⟨rfl, rfl⟩
  by_cases b0 : b = 0
  · by_cases fn : f = n
    · rw [if_pos (by rw [b0]; rfl), if_pos (by rw [fn])]
      exact loop _ (fun _ => by unfold pT; rw [if_pos fn]) (fun h => absurd b0 h)
    · rw [if_pos (by rw [b0]; rfl), if_neg (by rw [nI_eq (by omega) (by omega)]; exact fn)]
      exact loop _ (fun _ => by unfold pT; rw [if_neg fn]) (fun h => absurd b0 h)
  · rw [if_neg (nI_ne0 (by omega) (by omega))]
    exact loop _ (fun h => absurd h b0) (fun _ => rfl)
end PLATE
theorem plate2 {I μ : Mem} {z : Nat} (R : R1 I μ (z + 155) 9 42 43 0 99) (x1 x2 : Int32) : ok2 (x0_plate I z x1 x2) (m_plate μ x1 x2) (fun r t => r.1 = t.1 ∧ (∀ a, ¬ (z + 2426 ≤ a ∧ a < z + 2436) → r.2 a = I a) ∧ ∀ k, k ≠ 0 → k ≠ 44 → t.2 k = μ k) := by
  have R' : R1 I (up2 μ 0 0 (nI 0)) (z + 155) 9 42 43 0 99 := R.cong (fun _ _ _ => rfl) (up2_ne (by omega)) (fun i _ => up2_ne (by omega))
  obtain ⟨n, hn, e1, e2, h⟩ := R'
  unfold x0_plate m_plate
  rw [nm_eq]
  have fr0 : ∀ k, k ≠ 0 → up2 μ 0 0 (nI 0) k = μ k := fun k hk => up2_k hk
  generalize hν : up2 μ 0 0 (nI 0) = ν at *
  have hp43 : ∀ t, t < n → ν 43 t = nI ((ν 43 t).toNatClampNeg) ∧ (ν 43 t).toNatClampNeg ≤ 99 := fun t ht => by
    obtain ⟨_, v, _, hv, e⟩ := h t ht
    rw [e, nI_clamp (by omega)]
    exact ⟨rfl, hv⟩
  have hpx : ∀ t, t < n → I (z + 157 + t) 0 = nI ((ν 43 t).toNatClampNeg) := fun t ht => by
    rw [show z + 157 + t = z + 155 + 2 + t by omega, (h t ht).1]; exact (hp43 t ht).1
  generalize hpp : (fun t => (ν 43 t).toNatClampNeg) = p
  have hpx' : ∀ t, t < n → I (z + 157 + t) 0 = nI (p t) := fun t ht => by rw [← hpp]; exact hpx t ht
  have hpm' : ∀ t, t < n → ν 43 t = nI (p t) := fun t ht => by rw [← hpp]; exact (hp43 t ht).1
  have hp99 : ∀ t, t < n → p t ≤ 99 := fun t ht => by rw [← hpp]; exact (hp43 t ht).2
  rw [e1, e2, isIn_x, isIn_m, isIn_x, isIn_m, Option.bind_some, Option.bind_some, Option.bind_some, Option.bind_some]
  refine ok2_ii Iff.rfl (fun _ _ => ok2_some ⟨rfl, fun _ _ => rfl, fun k k0 _ => fr0 k k0⟩) (fun c1 _ => ?_)
  obtain ⟨k, hk1, hk, rfl⟩ := in_nI (by decide) (by omega) (of_decide_eq_true (sd_bI c1))
  refine ok2_ii Iff.rfl (fun _ _ => ok2_some ⟨rfl, fun _ _ => rfl, fun k k0 _ => fr0 k k0⟩) (fun c2 _ => ?_)
  obtain ⟨w, _, hw, rfl⟩ := in_nI (by decide) (by decide) (of_decide_eq_true (sd_bI c2))
  refine ok2_l (ok_mono (lays_x hn e1 hpx' hk) ?_)
  rintro J ⟨g1, g2⟩
  refine ok2_r (ok_mono (lays_m hn e2 hpm') ?_)
  rintro ρ ⟨m1, m2⟩
  obtain ⟨b, rfl⟩ : ∃ q, k = q + 1 := ⟨k - 1, by omega⟩
  have fm : ∀ k, k ≠ 0 → k ≠ 44 → ρ k = μ k := fun k h0 h44 => by rw [m2 k h44, fr0 k h0]
  have top : ρ 44 (10 * (b + 1)) = J (z + 2426 + (b + 1)) 0 := by
    have := m1 (b + 1) 0 (by omega) (by omega)
    rw [Nat.add_zero] at this
    rw [this, g1 (b + 1) 0 (by omega) (by omega), pT_eq hp99 hn]
  rw [pk_mul, rd_eq (i := 10 * (b + 1)) (by omega) (by decide), Option.bind_some, jn_eq, top]
  by_cases w0 : w = 0
  · subst w0
    refine ok2_tr nI_0 (ok2_tl nI_0 (ok2_tl nI_0 ?_))
    rw [ix_eq (i := b + 1) (by omega) (by decide), Option.bind_some, rd_eq (i := 0) (by decide) (by decide), Option.bind_some]
    exact ok2_some ⟨rfl, g2, fm⟩
  · refine ok2_fr (nI_ne0 (by omega) (by omega)) (ok2_fl (nI_ne0 (by omega) (by omega)) ?_)
    by_cases b0 : b = 0
    · subst b0
      refine ok2_tl rfl (ok2_fl (nI_ne0 (by omega) (by omega)) ?_)
      rw [fuel_10, lp_s]
      refine ok2_ir (fun _ => ok2_some ⟨rfl, g2, fm⟩) (fun _ => ok2_tr (nI_le (by decide) (by decide)) (ok2_some ⟨rfl, g2, fm⟩))
    · refine ok2_fl (by rw [nI_eq (by omega) (by decide)]; omega) ?_
      obtain ⟨c, rfl⟩ : ∃ q, b = q + 1 := ⟨b - 1, by omega⟩
      -- what is looked for
      have eT : pT p n 1000000 (c + 1 + 1) 0 = plv p (pT p n 1000000 (c + 1)) 0 (n - 0) := rfl
      have hTop : J (z + 2426 + (c + 1 + 1)) 0 = plv p (pT p n 1000000 (c + 1)) 0 n := by rw [g1 _ 0 (by omega) (by omega), eT, Nat.sub_zero]
      obtain ⟨at1, at2, at3⟩ := plv_at (p := p) (f := pT p n 1000000 (c + 1)) (fr := 0) n
      have hge : ∀ j, j < n → (-1 : Int32) ≤ imin (nI (shr p 0 (0 + 1 + j))) (pT p n 1000000 (c + 1) (0 + 1 + j)) := fun j hj => by
        have hs := shr_le (p := p) (i := 0) (j := 0 + 1 + j) hp99 hn (by omega)
        have h1 : (-1 : Int32) ≤ nI (shr p 0 (0 + 1 + j)) := Int32.le_trans (show (-1 : Int32) ≤ nI 0 by decide) (nI_le (Nat.zero_le _) (by omega))
        have h2 : (-1 : Int32) ≤ pT p n 1000000 (c + 1) (0 + 1 + j) := pT_ge p n (far := 1000000) (by decide) _ _
        unfold imin
        split
        · exact h2
        · exact h1
      have hlast : imin (nI (shr p 0 n)) (pT p n 1000000 (c + 1) n) = -1 := by
        have : pT p n 1000000 (c + 1) n = -1 := by
          unfold pT
          rw [Nat.sub_self]; rfl
        rw [this]
        unfold imin
        have hs := shr_le (p := p) (i := 0) (j := n) hp99 hn (Nat.le_refl _)
        rw [if_pos (fa_trans (by decide) (nI_le (a := 0) (Nat.zero_le _) (by omega)))]
      have found : ∃ j, j < n - 1 ∧ imin (nI (shr p 0 (0 + 1 + j))) (pT p n 1000000 (c + 1) (0 + 1 + j)) = plv p (pT p n 1000000 (c + 1)) 0 n := by
        have zero : plv p (pT p n 1000000 (c + 1)) 0 n = -1 → imin (nI (shr p 0 (0 + 1 + 0))) (pT p n 1000000 (c + 1) (0 + 1 + 0)) = plv p (pT p n 1000000 (c + 1)) 0 n := fun e => by
          have := at3 0 (by omega)
          rw [e] at this ⊢
          exact Int32.le_antisymm this (hge 0 (by omega))
        rcases at1 with e | ⟨j, hj, e⟩
        · exact ⟨0, by omega, zero e⟩
        · by_cases ej : j = n - 1
          · refine ⟨0, by omega, zero ?_⟩
            rw [← e, ej, show 0 + 1 + (n - 1) = n by omega, hlast]
          · exact ⟨j, by omega, e⟩
      obtain ⟨j0, hj0, f1, f2⟩ := fb_first (p := fun j => imin (nI (shr p 0 (0 + 1 + j))) (pT p n 1000000 (c + 1) (0 + 1 + j)) = plv p (pT p n 1000000 (c + 1)) 0 n) found
      rw [hTop]
      refine ok2_for j0 (fun i s s' => s = nI (1 + i) ∧ s' = nI (1 + i)) (by omega) ?_ ⟨rfl, rfl⟩
      rintro again again' i _ _ hi ⟨rfl, rfl⟩ ih
      rw [m2 42 (by decide), e2, if_neg (nI_ge (a := 1 + i) (b := n) (by omega) (by omega)), if_neg (nI_ge (a := 1) (b := c + 1 + 1) (by omega) (by omega)), share_m hn (fun t ht => by rw [m2 43 (by decide)]; exact hpm' t ht) (by omega) (by omega), Option.bind_some, nI_sub (by omega), Nat.add_sub_cancel, pk_mul, nI_add, nI_add, rd_eq (i := 10 * (c + 1) + (1 + i)) (by omega) (by decide), Option.bind_some, imin_lesser, Option.bind_some, share_x hn (fun t ht => by rw [g2 _ (by omega)]; exact hpx' t ht) (by omega) (by omega), Option.bind_some, ix_eq (i := c + 1) (by omega) (by decide), Option.bind_some, rd_eq (i := 1 + i) (by omega) (by decide), Option.bind_some, ix_eq (i := c + 1 + 1) (by omega) (by decide), Option.bind_some, rd_eq (i := 0) (by decide) (by decide), Option.bind_some, hTop, m1 (c + 1) (1 + i) (by omega) (by omega), g1 (c + 1) (1 + i) (by omega) (by omega), ← pT_eq hp99 hn]
      by_cases ei : i = j0
      · subst ei
        have f1' : imin (nI (shr p 0 (1 + i))) (pT p n 1000000 (c + 1) (1 + i)) = plv p (pT p n 1000000 (c + 1)) 0 n := by
          rw [Nat.zero_add] at f1; exact f1
        exact ok2_tl f1' (ok2_tr f1' (ok2_some ⟨rfl, g2, fm⟩))
      · have f2' : ¬ imin (nI (shr p 0 (1 + i))) (pT p n 1000000 (c + 1) (1 + i)) = plv p (pT p n 1000000 (c + 1)) 0 n := by
          have := f2 i (by omega)
          rw [Nat.zero_add] at this; exact this
        exact ok2_fl f2' (ok2_fr f2' (ih (by omega) _ _ ⟨by rw [Nat.add_assoc], by rw [Nat.add_assoc]⟩))
