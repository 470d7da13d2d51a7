/-! ===== the mortgage ===== -/
def mg (r p : Nat) : Nat → Nat → Nat → Nat → Option (Nat × Nat)
  | 0, _, _, _ => none
  | k + 1, d, q, n => if 1000000 ≤ d then none else if d + (d * r + 99) / 100 ≤ p then some (q + (d + (d * r + 99) / 100), n) else mg r p k (d + (d * r + 99) / 100 - p) (q + p) (n + 1)
theorem mg_no (r p : Nat) : ∀ k d q n, 1 ≤ d → p ≤ (d * r + 99) / 100 → mg r p k d q n = none := by
  intro k
  induction k with
  | zero => intro d q n _ _; rfl
  | succ k ih =>
    intro d q n h1 h2
    unfold mg
    by_cases c : 1000000 ≤ d
    · rw [if_pos c]
    · rw [if_neg c, if_neg (by omega)]
      refine ih _ _ _ (by omega) (Nat.le_trans h2 ?_)
      refine Nat.div_le_div_right (Nat.add_le_add_right (Nat.mul_le_mul_right r ?_) 99)
      omega
theorem nI_div {a c : Nat} (ha : a < 2 ^ 31) (hc : 0 < c) (hc2 : c < 2 ^ 31) : nI a / nI c = nI (a / c) := by
  have h := pk_div ha hc hc2
  exact h
def mgR (x4 : Int32) (o : Option (Nat × Nat)) : Int32 := match o with
  | none => -1
  | some (q, n) => if x4 = 0 then nI n else nI q
theorem mort_b {d r : Nat} (hd : d < 1600000) (hr : r ≤ 50) : d * r ≤ 80000000 := Nat.le_trans (Nat.mul_le_mul (Nat.le_of_lt hd) hr) (by decide)
theorem mort_x (I : Mem) (z : Nat) {x r p : Nat} {x4 : Int32} (hx : 1 ≤ x ∧ x ≤ 9999) (hr : r ≤ 50) (hp : 1 ≤ p ∧ p ≤ 999) (h4 : nI 0 ≤ x4 ∧ x4 ≤ nI 1) : x0_mortgage I z (nI x) (nI r) (nI p) x4 = some (mgR x4 (mg r p 400 x 0 1)) := by
  unfold x0_mortgage
  rw [isIn_x, Option.bind_some, isIn_x, Option.bind_some, isIn_x, Option.bind_some, isIn_x, Option.bind_some, decide_eq_true (⟨nI_le hx.1 (by omega), nI_le hx.2 (by decide)⟩ : nI 1 ≤ nI x ∧ nI x ≤ nI 9999), if_neg (by decide), decide_eq_true (⟨nI_le (Nat.zero_le r) (by omega), nI_le hr (by decide)⟩ : nI 0 ≤ nI r ∧ nI r ≤ nI 50), if_neg (by decide), decide_eq_true (⟨nI_le hp.1 (by omega), nI_le hp.2 (by decide)⟩ : nI 1 ≤ nI p ∧ nI p ≤ nI 999), if_neg (by decide), decide_eq_true h4, if_neg (by decide)]
  refine ok_val (ok_jn (fun j => ∃ q n, j = (nI q, nI n) ∧ mg r p 400 x 0 1 = some (q, n)) ?_ (fun k hk => ?_))
  · rintro _ ⟨q, n, rfl, e⟩
    rw [e]
    unfold mgR
    dsimp only
    exact ok_ite (fun c => ok_some (by rw [if_pos c])) (fun c => ok_some (by rw [if_neg c]))
  · refine ok_lp (fun s => ∃ j d q n, s = (nI d, nI q, nI n) ∧ j + n = 401 ∧ 1 ≤ n ∧ d < 1600000 ∧ q ≤ 999 * n ∧ mg r p j d q n = mg r p 400 x 0 1) (fun s => 402 - s.2.2.toNatClampNeg) ?_ fuel _ ⟨400, x, 0, 1, rfl, rfl, by decide, by omega, by omega, rfl⟩ (by show 402 - (nI 1).toNatClampNeg < 20000; omega)
    rintro again _ ⟨j, d, q, n, rfl, hj, hn, hd, hq, e⟩ ih
    dsimp only
    have hb := mort_b hd hr
    refine ok_ite (fun c => ok_some ?_) (fun c => ?_)
    · rw [nI_ltI (by decide) (by omega)] at c
      rw [← e, show j = 0 by omega]
      rfl
    · rw [nI_ltI (by decide) (by omega)] at c
      obtain ⟨j, rfl⟩ : ∃ i, j = i + 1 := ⟨j - 1, by omega⟩
      rw [← e]
      unfold mg
      have e6 : (1000000 : Int32) = nI 1000000 := rfl
      refine ok_ite (fun c2 => ok_some ?_) (fun c2 => ?_)
      · rw [e6, nI_leI (by decide) (by omega)] at c2
        rw [if_pos c2]; rfl
      · rw [e6, nI_leI (by decide) (by omega)] at c2
        rw [if_neg c2]
        have hb2 : d * r ≤ 50000000 := Nat.le_trans (Nat.mul_le_mul (show d ≤ 1000000 by omega) hr) (by decide)
        have ed : idivO (nI d * nI r + nI 99) (nI 100) = some (nI ((d * r + 99) / 100)) := by
          unfold idivO
          rw [if_neg (by decide), pk_mul, nI_add, nI_div (by omega) (by decide) (by decide)]
        rw [ed, Option.bind_some]
        refine ok_nm (ok_nm ?_)
        rw [nI_add, imin_nI (by omega) (by omega), nI_sub (by omega), nI_add]
        by_cases c3 : d + (d * r + 99) / 100 ≤ p
        · rw [if_pos c3, Nat.min_eq_right c3, Nat.sub_self]
          refine ok_t nI_0 ?_
          have hk' := hk (nI (q + (d + (d * r + 99) / 100)), nI n) ⟨_, _, rfl, by rw [← e]; unfold mg; rw [if_neg c2, if_pos c3]⟩
          rw [← e] at hk'
          unfold mg at hk'
          rw [if_neg c2, if_pos c3] at hk'
          exact hk'
        · rw [if_neg c3, Nat.min_eq_left (by omega)]
          refine ok_f (nI_ne0 (by omega) (by omega)) ?_
          rw [nI_add]
          have := ih (nI (d + (d * r + 99) / 100 - p), nI (q + p), nI (n + 1)) ⟨j, _, _, _, rfl, by omega, by omega, by omega, by omega, by rw [← e]; conv => rhs; unfold mg; rw [if_neg c2, if_neg c3]⟩ (by
            show 402 - (nI (n + 1)).toNatClampNeg < 402 - (nI n).toNatClampNeg
            rw [nI_clamp (by omega), nI_clamp (by omega)]
            omega)
          rw [← e] at this
          unfold mg at this
          rw [if_neg c2, if_neg c3] at this
          exact this
theorem mort_m (μ : Mem) {x r p : Nat} {x4 : Int32} (hx : 1 ≤ x ∧ x ≤ 9999) (hr : r ≤ 50) (hp : 1 ≤ p ∧ p ≤ 999) (h4 : nI 0 ≤ x4 ∧ x4 ≤ nI 1) : m_mortgage μ (nI x) (nI r) (nI p) x4 = some (mgR x4 (mg r p 400 x 0 1), up2 μ 0 0 (nI 0)) := by
  unfold m_mortgage
  rw [nm_eq, isIn_m, Option.bind_some, isIn_m, Option.bind_some, isIn_m, Option.bind_some, isIn_m, Option.bind_some, decide_eq_true (⟨nI_le hx.1 (by omega), nI_le hx.2 (by decide)⟩ : nI 1 ≤ nI x ∧ nI x ≤ nI 9999), if_neg (by decide), decide_eq_true (⟨nI_le (Nat.zero_le r) (by omega), nI_le hr (by decide)⟩ : nI 0 ≤ nI r ∧ nI r ≤ nI 50), if_neg (by decide), decide_eq_true (⟨nI_le hp.1 (by omega), nI_le hp.2 (by decide)⟩ : nI 1 ≤ nI p ∧ nI p ≤ nI 999), if_neg (by decide), decide_eq_true h4, if_neg (by decide)]
  refine ok_val (ok_jn (fun j => ∃ q n, j = (nI q, nI n) ∧ mg r p 400 x 0 1 = some (q, n)) ?_ (fun k hk => ?_))
  · rintro _ ⟨q, n, rfl, e⟩
    rw [e]
    unfold mgR
    dsimp only
    exact ok_ite (fun c => ok_some (by rw [if_pos c])) (fun c => ok_some (by rw [if_neg c]))
  · refine ok_lp (fun s => ∃ j d q n, s = (nI d, nI q, nI n) ∧ j + n = 401 ∧ 1 ≤ n ∧ 1 ≤ d ∧ d ≤ 9999 ∧ q ≤ 999 * n ∧ mg r p j d q n = mg r p 400 x 0 1) (fun s => 402 - s.2.2.toNatClampNeg) ?_ fuel _ ⟨400, x, 0, 1, rfl, rfl, by decide, hx.1, hx.2, by omega, rfl⟩ (by show 402 - (nI 1).toNatClampNeg < 20000; omega)
    rintro again _ ⟨j, d, q, n, rfl, hj, hn, hd1, hd, hq, e⟩ ih
    dsimp only
    have hb := mort_b (show d < 1600000 by omega) hr
    refine ok_ite (fun c => ok_some ?_) (fun c => ?_)
    · rw [nI_ltI (by decide) (by omega)] at c
      rw [← e, show j = 0 by omega]
      rfl
    · rw [nI_ltI (by decide) (by omega)] at c
      obtain ⟨j, rfl⟩ : ∃ i, j = i + 1 := ⟨j - 1, by omega⟩
      have c2 : ¬ 1000000 ≤ d := by omega
      have ed : idivO (nI d * nI r + nI 99) (nI 100) = some (nI ((d * r + 99) / 100)) := by
        unfold idivO
        rw [if_neg (by decide), pk_mul, nI_add, nI_div (by omega) (by decide) (by decide)]
      rw [ed, Option.bind_some, nI_add, lesser_nI _ (by omega) (by omega), Option.bind_some]
      by_cases c3 : d + (d * r + 99) / 100 ≤ p
      · rw [Nat.min_eq_left c3, nI_add]
        refine ok_t rfl ?_
        exact hk (nI (q + (d + (d * r + 99) / 100)), nI n) ⟨_, _, rfl, by rw [← e]; unfold mg; rw [if_neg c2, if_pos c3]⟩
      · rw [Nat.min_eq_right (by omega)]
        refine ok_f (by rw [nI_eq (by omega) (by omega)]; omega) ?_
        rw [nI_sub (by omega), nI_add, nI_add]
        refine ok_ite (fun c4 => ok_nm ?_) (fun c4 => ok_some ?_)
        · rw [nI_ltI (by omega) (by omega)] at c4
          exact ih _ ⟨j, d + (d * r + 99) / 100 - p, q + p, n + 1, rfl, by omega, by omega, by omega, by omega, by omega, by rw [← e]; conv => rhs; unfold mg; rw [if_neg c2, if_neg c3]⟩ (by
            show 402 - (nI (n + 1)).toNatClampNeg < 402 - (nI n).toNatClampNeg
            rw [nI_clamp (by omega), nI_clamp (by omega)]
            omega)
        · rw [nI_ltI (by omega) (by omega)] at c4
          rw [← e, mg_no r p _ _ _ _ hd1 (by omega)]
          rfl
theorem mort2 (I : Mem) (z : Nat) (μ : Mem) (x1 x2 x3 x4 : Int32) : ∃ v, x0_mortgage I z x1 x2 x3 x4 = some v ∧ m_mortgage μ x1 x2 x3 x4 = some (v, up2 μ 0 0 (nI 0)) := by
  by_cases c1 : nI 1 ≤ x1 ∧ x1 ≤ nI 9999
  · by_cases c2 : nI 0 ≤ x2 ∧ x2 ≤ nI 50
    · by_cases c3 : nI 1 ≤ x3 ∧ x3 ≤ nI 999
      · by_cases c4 : nI 0 ≤ x4 ∧ x4 ≤ nI 1
        · obtain ⟨x, a1, a2, rfl⟩ := in_nI (by decide) (by decide) c1
          obtain ⟨r, _, b2, rfl⟩ := in_nI (by decide) (by decide) c2
          obtain ⟨p, d1, d2, rfl⟩ := in_nI (by decide) (by decide) c3
          exact ⟨_, mort_x I z ⟨a1, a2⟩ b2 ⟨d1, d2⟩ c4, mort_m μ ⟨a1, a2⟩ b2 ⟨d1, d2⟩ c4⟩
        · refine ⟨-1, ?_, ?_⟩
          · unfold x0_mortgage
            rw [isIn_x, Option.bind_some, isIn_x, Option.bind_some, isIn_x, Option.bind_some, isIn_x, Option.bind_some, decide_eq_true c1, if_neg (by decide), decide_eq_true c2, if_neg (by decide), decide_eq_true c3, if_neg (by decide), decide_eq_false c4, if_pos (by decide)]
          · unfold m_mortgage
            rw [nm_eq, isIn_m, Option.bind_some, isIn_m, Option.bind_some, isIn_m, Option.bind_some, isIn_m, Option.bind_some, decide_eq_true c1, if_neg (by decide), decide_eq_true c2, if_neg (by decide), decide_eq_true c3, if_neg (by decide), decide_eq_false c4, if_pos (by decide)]
      · refine ⟨-1, ?_, ?_⟩
        · unfold x0_mortgage
          rw [isIn_x, Option.bind_some, isIn_x, Option.bind_some, isIn_x, Option.bind_some, decide_eq_true c1, if_neg (by decide), decide_eq_true c2, if_neg (by decide), decide_eq_false c3, if_pos (by decide)]
        · unfold m_mortgage
          rw [nm_eq, isIn_m, Option.bind_some, isIn_m, Option.bind_some, isIn_m, Option.bind_some, decide_eq_true c1, if_neg (by decide), decide_eq_true c2, if_neg (by decide), decide_eq_false c3, if_pos (by decide)]
    · refine ⟨-1, ?_, ?_⟩
      · unfold x0_mortgage
        rw [isIn_x, Option.bind_some, isIn_x, Option.bind_some, decide_eq_true c1, if_neg (by decide), decide_eq_false c2, if_pos (by decide)]
      · unfold m_mortgage
        rw [nm_eq, isIn_m, Option.bind_some, isIn_m, Option.bind_some, decide_eq_true c1, if_neg (by decide), decide_eq_false c2, if_pos (by decide)]
  · refine ⟨-1, ?_, ?_⟩
    · unfold x0_mortgage
      rw [isIn_x, Option.bind_some, decide_eq_false c1, if_pos (by decide)]
    · unfold m_mortgage
      rw [nm_eq, isIn_m, Option.bind_some, decide_eq_false c1, if_pos (by decide)]
