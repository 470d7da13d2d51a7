/-! ===== the slab: the model's side ===== -/
def SL (s : Nat) (μ : Mem) : Prop := ∀ r, r < 5 → μ 70 r = nI (dg s r)
theorem takes_m (μ : Mem) {s : Nat} (hs : s < 16807) : ok (m_takesSlab μ (nI s)) (fun ν => SL s ν ∧ ∀ k, k ≠ 70 → ν k = μ k) := by
  unfold m_takesSlab
  refine ok_for 5 (fun i st => st.1 = nI (s / 7 ^ i) ∧ st.2.1 = nI i ∧ (∀ r, r < i → st.2.2 70 r = nI (dg s r)) ∧ ∀ k, k ≠ 70 → st.2.2 k = μ k) (by decide) ?_ ⟨by rw [Nat.pow_zero, Nat.div_one], rfl, fun r h => by omega, fun _ _ => rfl⟩
  rintro again i ⟨_, _, ν⟩ hi ⟨e1, e2, h, fr⟩ ih
  dsimp only at e1 e2 h fr ⊢
  subst e1 e2
  have hq : s / 7 ^ i ≤ s := Nat.div_le_self _ _
  refine ok_ite (fun c => ok_some ?_) (fun c => ?_)
  · have := le_iff (by decide) (by omega) c
    exact ⟨fun r hr => h r (by omega), fr⟩
  · have hi5 := nle_iff (by decide) (by omega) c
    rw [rem_nI (by omega) (by decide) (by decide), Option.bind_some, wr_eq (i := i) (by omega) (by decide), Option.bind_some, div_nI (by omega) (by decide) (by decide), Option.bind_some, nI_add]
    refine ih hi5 _ ⟨by rw [Nat.pow_succ, Nat.div_div_eq_div_mul], rfl, fun r hr => ?_, fun k hk => by dsimp only; rw [up2_k hk]; exact fr k hk⟩
    dsimp only
    by_cases e : r = i
    · subst e; rw [up2_same]; rfl
    · rw [up2_ne (Or.inr e)]; exact h r (by omega)
section SLAB
variable {μ : Mem} {s : Nat}
theorem isSlab_m (h : SL s μ) : ∃ b, m_isSlab μ = some b ∧ (b = true ↔ mono s) := by
  have : ok (m_isSlab μ) (fun b => b = true ↔ mono s) := by
    unfold m_isSlab
    refine ok_for 4 (fun i st => st = nI (i + 1) ∧ ∀ r, r < i → dg s (r + 1) ≤ dg s r) (by decide) ?_ ⟨rfl, fun r h => by omega⟩
    rintro again i _ hi ⟨rfl, h0⟩ ih
    have d1 := dg_lt s (i + 1)
    have d0 := dg_lt s i
    refine ok_ite (fun c => ok_some ?_) (fun c => ?_)
    · have := le_iff (by decide) (by omega) c
      exact ⟨fun _ r hr => h0 r (by omega), fun _ => rfl⟩
    · have hi5 := nle_iff (by decide) (by omega) c
      rw [rd_eq (i := i + 1) (by omega) (by decide), Option.bind_some, nI_sub (by omega), show i + 1 - 1 = i by omega, rd_eq (i := i) (by omega) (by decide), Option.bind_some, h (i + 1) (by omega), h i (by omega), nI_add]
      refine ok_ite (fun cc => ?_) (fun cc => ok_some ?_)
      · have := le_iff (by omega) (by omega) cc
        refine ih (by omega) _ ⟨rfl, fun r hr => ?_⟩
        by_cases e : r = i
        · subst e; exact this
        · exact h0 r (by omega)
      · have := nle_iff (by omega) (by omega) cc
        refine ⟨fun q => absurd q (by decide), fun q => ?_⟩
        have := q i (by omega)
        omega
  exact this
theorem bitten_m (h : SL s μ) {row c : Nat} (hr : row < 5) (hc : c < 7) : m_bitten μ (nI row) (nI c) = some (nI (bn s row c)) := by
  unfold m_bitten
  have step : ∀ i, i < 5 → ∀ {R : Type} (k5 : Int32 → Option R), (if nI row ≤ nI i then (rd μ 70 5 (nI i)).bind fun v8 => (m_lesser μ v8 (nI c)).bind fun r9 => k5 r9 else (rd μ 70 5 (nI i)).bind fun v10 => k5 v10) = k5 (nI (bd s row c i)) := by
    intro i hi R k5
    have hd := dg_lt s i
    rw [rd_eq (i := i) (by omega) (by decide), Option.bind_some, Option.bind_some, h i hi, lesser_nI _ (by omega) (by omega), Option.bind_some]
    unfold bd
    by_cases c1 : row ≤ i
    · rw [if_pos (nI_le c1 (by omega)), if_neg (by omega)]
    · rw [if_neg (nI_ge (by omega) (by omega)), if_pos (by omega)]
  rw [show fuel = 19990 + 10 from rfl, lp_s]
  dsimp only
  rw [if_neg (by decide), jn_eq, step 4 (by decide), nm_eq, pk_mul, nI_add, nI_m1 3, lp_s]
  dsimp only
  rw [if_neg (by decide), jn_eq, step 3 (by decide), nm_eq, pk_mul, nI_add, nI_m1 2, lp_s]
  dsimp only
  rw [if_neg (by decide), jn_eq, step 2 (by decide), nm_eq, pk_mul, nI_add, nI_m1 1, lp_s]
  dsimp only
  rw [if_neg (by decide), jn_eq, step 1 (by decide), nm_eq, pk_mul, nI_add, nI_m1 0, lp_s]
  dsimp only
  rw [if_neg (by decide), jn_eq, step 0 (by decide), nm_eq, pk_mul, nI_add, lp_s]
  dsimp only
  rw [if_pos (by decide), bn_eq]
  congr 2
  omega
/-- what the table tells below s -/
def TBL (μ : Mem) (s : Nat) : Prop := ∀ t, t < s → t < 16807 → mono t → (μ 69 t = nI 0 ↔ (t = 0 ∨ lo t = true))
theorem good_m (h : SL s μ) (hs : s < 16807) (hm : mono s) (T : TBL μ s) : ok (m_goodBite μ) (fun r => FB (dg s) (fun row c => lo (bn s row c)) r) := by
  unfold m_goodBite
  rw [jn_eq]
  refine ok_for 5 (fun i st => st = nI i ∧ ∀ row c, row < i → row < 5 → c < dg s row → lo (bn s row c) = false) (by decide) ?_ ⟨rfl, fun row c h => by omega⟩
  rintro again i _ hi ⟨rfl, h0⟩ ih
  refine ok_ite (fun c5 => ok_some ?_) (fun c5 => ?_)
  · have := le_iff (by decide) (by omega) c5
    exact Or.inl ⟨rfl, fun row c hr hc => h0 row c (by omega) hr hc⟩
  · have hi5 := nle_iff (by decide) (by omega) c5
    have hd7 := dg_lt s i
    refine ok_for (dg s i) (fun k st => st = nI k ∧ ∀ c, c < k → lo (bn s i c) = false) (by omega) ?_ ⟨rfl, fun c h => by omega⟩
    rintro ag k _ hk ⟨rfl, h1⟩ ih2
    rw [rd_eq (i := i) (by omega) (by decide), Option.bind_some, h i hi5, nI_add, nI_add, nI_add]
    refine ok_ite (fun cc => ?_) (fun cc => ?_)
    · have := le_iff (by omega) (by omega) cc
      refine ih hi5 _ ⟨rfl, fun row c h1' h2' h3' => ?_⟩
      by_cases e : row = i
      · subst e; exact h1 c (by omega)
      · exact h0 row c (by omega) h2' h3'
    · have hkl := nle_iff (by omega) (by omega) cc
      have hb := bn_lt hs hi5 hkl
      have hb0 := bn_0 hm hi5 hkl
      have go : lo (bn s i k) = false → ok (ag (nI (k + 1))) (fun r => FB (dg s) (fun row c => lo (bn s row c)) r) := fun q => ih2 hkl _ ⟨rfl, fun c hc => by
        by_cases e : c = k
        · subst e; exact q
        · exact h1 c (by omega)⟩
      refine ok_ite (fun cz => go ?_) (fun cz => ?_)
      · rw [nI_le0 (by omega)] at cz
        rw [hb0.mpr cz]; exact lo_0
      · rw [nI_le0 (by omega)] at cz
        rw [bitten_m h hi5 (by omega), Option.bind_some, rd_eq (i := bn s i k) (by omega) (by decide), Option.bind_some]
        have ht := T (bn s i k) hb (by omega) (mono_bn hm)
        refine ok_ite (fun c0 => ok_some ?_) (fun c0 => go ?_)
        · rw [← nI_0] at c0
          have hl : lo (bn s i k) = true := by
            rcases ht.mp c0 with e | e
            · exact absurd (hb0.mp e) cz
            · exact e
          rw [pk_mul, nI_add]
          refine Or.inr ⟨i, k, hi5, hkl, by omega, hl, fun row' c' a1 a2 a3 => ?_, rfl⟩
          rcases a3 with a3 | ⟨rfl, a3⟩
          · exact h0 row' c' a3 a1 a2
          · exact h1 c' a3
        · rw [← nI_0] at c0
          cases e : lo (bn s i k) with
          | false => rfl
          | true => exact absurd (ht.mpr (Or.inr e)) c0
end SLAB
/-- a full slab -/
def fl (v : Nat) : Nat → Nat
  | 0 => 0
  | n + 1 => 7 * fl v n + v
theorem fl_lt {v : Nat} (hv : v ≤ 6) : ∀ {n : Nat}, n ≤ 5 → fl v n < 16807 := by
  intro n hn
  have h1 : fl v 1 = v := by unfold fl fl; omega
  have h2 : fl v 2 = 8 * v := by unfold fl; rw [h1]; omega
  have h3 : fl v 3 = 57 * v := by unfold fl; rw [h2]; omega
  have h4 : fl v 4 = 400 * v := by unfold fl; rw [h3]; omega
  have h5 : fl v 5 = 2801 * v := by unfold fl; rw [h4]; omega
  have : n = 0 ∨ n = 1 ∨ n = 2 ∨ n = 3 ∨ n = 4 ∨ n = 5 := by omega
  rcases this with rfl | rfl | rfl | rfl | rfl | rfl
  · exact (show (0 : Nat) < 16807 by decide)
  all_goals omega
theorem fl_mono {v n : Nat} (hv : v ≤ 6) (hn : n ≤ 5) : mono (fl v n) := by
  have : ∀ n, n < 6 → ∀ v, v < 7 → ∀ r, r < 4 → dg (fl v n) (r + 1) ≤ dg (fl v n) r := by decide +kernel
  exact fun r hr => this n (by omega) v (by omega) r hr
theorem game2 (I : Mem) (z : Nat) (μ : Mem) (M : MEMO z I) (h69 : μ 69 0 = nI 0) (x1 x2 : Int32) : ok2 (x0_game I z x1 x2) (m_game μ x1 x2) (fun r t => r.1 = t.1 ∧ (∀ a, a ≠ z + 2462 → r.2 a = I a) ∧ MEMO z r.2 ∧ t.2 69 0 = nI 0 ∧ ∀ k, k ≠ 0 → k ≠ 69 → k ≠ 70 → t.2 k = μ k) := by
  unfold x0_game m_game
  rw [nm_eq, isIn_x, Option.bind_some, isIn_m, Option.bind_some, isIn_x, Option.bind_some, isIn_m, Option.bind_some]
  have h69' : up2 μ 0 0 (nI 0) 69 0 = nI 0 := by rw [up2_ne (by omega)]; exact h69
  have no : ok2 (some ((-1 : Int32), I)) (some ((-1 : Int32), up2 μ 0 0 (nI 0))) (fun r t => r.1 = t.1 ∧ (∀ a, a ≠ z + 2462 → r.2 a = I a) ∧ MEMO z r.2 ∧ t.2 69 0 = nI 0 ∧ ∀ k, k ≠ 0 → k ≠ 69 → k ≠ 70 → t.2 k = μ k) := ok2_some ⟨rfl, fun _ _ => rfl, M, h69', fun k h0 _ _ => up2_k h0⟩
  by_cases hx1 : nI 1 ≤ x1 ∧ x1 ≤ nI 5
  · rw [decide_eq_true hx1, if_neg bT, if_neg bT]
    by_cases hx2 : nI 1 ≤ x2 ∧ x2 ≤ nI 6
    · rw [decide_eq_true hx2, if_neg bT, if_neg bT]
      obtain ⟨hh, hh1, hh5, rfl⟩ := in_nI (by decide) (by decide) hx1
      obtain ⟨f, hf1, hf6, rfl⟩ := in_nI (by decide) (by decide) hx2
      refine ok2_jj (fun j j' => j = nI (fl f hh) ∧ j' = nI (fl f hh)) ?_ (fun k k' hk => ?_)
      · rintro _ _ ⟨rfl, rfl⟩
        have hA := fl_lt hf6 hh5
        have hAm : mono (fl f hh) := fl_mono hf6 hh5
        refine ok2_l ?_
        refine ok_mono (win_x (z := z) 40 I (fl f hh) hA hAm (by have := ds_le (fl f hh); omega) M) ?_
        rintro ⟨r, J⟩ ⟨hF, mJ, frJ⟩
        dsimp only at hF mJ frJ ⊢
        refine ok2_jr ?_
        refine ok2_forr (fl f hh) (fun i st => st.1 = nI (i + 1) ∧ TBL st.2 (i + 1) ∧ st.2 69 0 = nI 0 ∧ ∀ k, k ≠ 0 → k ≠ 69 → k ≠ 70 → st.2 k = μ k) (by omega) ?_ ⟨rfl, fun t ht _ _ => ?_, h69', fun k h0 _ _ => up2_k h0⟩
        · rintro again i ⟨_, ν⟩ hi ⟨e1, T, h0, fr⟩ ih
          dsimp only at e1 T h0 fr ⊢
          subst e1
          refine ok2_ir (fun c => ?_) (fun c => ?_)
          · have := lt_iff (by omega) (by omega) c
            refine ok2_r ?_
            refine ok_mono (takes_m ν hA) ?_
            rintro ν2 ⟨s2, f2⟩
            refine ok2_r ?_
            refine ok_mono (good_m s2 hA hAm (fun t t1 t2 t3 => by rw [f2 69 (by decide)]; exact T t (by omega) t2 t3)) ?_
            intro r' hF'
            exact ok2_some ⟨hF.one hF', frJ, mJ, by dsimp only; rw [f2 69 (by decide)]; exact h0, fun k k0 k1 k2 => by dsimp only; rw [f2 k k2]; exact fr k k0 k1 k2⟩
          · have hle := nlt_iff (by omega) (by omega) c
            have hs : i + 1 < 16807 := by omega
            refine ok2_r ?_
            refine ok_mono (takes_m ν hs) ?_
            rintro ν2 ⟨s2, f2⟩
            obtain ⟨b, eb, hb⟩ := isSlab_m s2
            rw [eb, Option.bind_some, nI_add]
            refine ok2_jr ?_
            have fin : ∀ x : Int32, (mono (i + 1) → (x = nI 0 ↔ lo (i + 1) = true)) → ok2 (some (r, J)) ((wr ν2 69 16807 (nI (i + 1)) x).bind fun μ20 => again (nI (i + 1 + 1), μ20)) (fun r t => r.1 = t.1 ∧ (∀ a, a ≠ z + 2462 → r.2 a = I a) ∧ MEMO z r.2 ∧ t.2 69 0 = nI 0 ∧ ∀ k, k ≠ 0 → k ≠ 69 → k ≠ 70 → t.2 k = μ k) := by
              intro x hx
              rw [wr_eq (i := i + 1) (by omega) (by decide), Option.bind_some]
              refine ih (by omega) _ ⟨rfl, fun t t1 t2 t3 => ?_, ?_, fun k k0 k1 k2 => ?_⟩
              · dsimp only
                by_cases e : t = i + 1
                · subst e
                  rw [up2_same, hx t3]
                  exact ⟨Or.inr, fun q => by rcases q with q | q; exact absurd q (by omega); exact q⟩
                · rw [up2_ne (by omega), f2 69 (by decide)]
                  exact T t (by omega) t2 t3
              · dsimp only
                rw [up2_ne (by omega), f2 69 (by decide)]
                exact h0
              · dsimp only
                rw [up2_k k1, f2 k k2]
                exact fr k k0 k1 k2
            cases b with
            | false =>
              refine ok2_tr bF (fin _ (fun q => ?_))
              exact absurd (hb.mpr q) (by decide)
            | true =>
              refine ok2_fr bT ?_
              have hm := hb.mp rfl
              refine ok2_r ?_
              refine ok_mono (good_m s2 hs hm (fun t t1 t2 t3 => by rw [f2 69 (by decide)]; exact T t (by omega) t2 t3)) ?_
              intro r' hF'
              have hl : lo (i + 1) = true ↔ r' = -1 := by
                rw [lo_iff hs, hF'.no]
                exact ⟨fun h => h.2, fun h => ⟨by omega, h⟩⟩
              refine ok2_ir (fun cr => fin _ (fun _ => ?_)) (fun cr => fin _ (fun _ => ?_))
              · exact ⟨fun _ => hl.mpr cr, fun _ => rfl⟩
              · exact ⟨fun q => absurd q (by decide), fun q => absurd (hl.mp q) cr⟩
        · have : t = 0 := by omega
          subst this
          exact ⟨fun _ => Or.inl rfl, fun _ => h69'⟩
      · refine ok2_for hh (fun i s s' => s = (nI (fl f i), nI i) ∧ s' = (nI (fl f i), nI i)) (by omega) ?_ ⟨rfl, rfl⟩
        rintro again again' i _ _ hi ⟨rfl, rfl⟩ ih
        dsimp only
        refine ok2_ii Iff.rfl (fun c _ => ?_) (fun c _ => ?_)
        · have := le_iff (by omega) (by omega) c
          exact hk _ _ ⟨by rw [show i = hh by omega], by rw [show i = hh by omega]⟩
        · have := nle_iff (by omega) (by omega) c
          rw [nm_eq, nm_eq, pk_mul, nI_add, nI_add]
          exact ih (by omega) _ _ ⟨rfl, rfl⟩
    · rw [decide_eq_false hx2, if_pos bF, if_pos bF]
      exact no
  · rw [decide_eq_false hx1, if_pos bF, if_pos bF]
    exact no
