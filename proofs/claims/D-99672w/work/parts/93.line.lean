/-! ===== the line of heirs ===== -/
theorem ahead2 {I ν : Mem} {z : Nat} (R : RH I ν (z + 219)) {p : Nat} (hp : p < 12) : (x0_ahead I z (nI p) = some (-1) ∧ ν 63 p = nI 0) ∨ ∃ q, q < 12 ∧ x0_ahead I z (nI p) = some (nI q) ∧ ν 63 p = nI (q + 1) := by
  obtain ⟨c, hc, e1, e2, h, h'⟩ := R
  have fx : ∀ j, j < c → x2_first I (z + 219) 12 (nI j) = some (I (z + 219 + 2 + j) 0) := fun j hj => by
    unfold x2_first
    rw [ix_eq (by omega) (by decide), Option.bind_some, rd_eq (i := 0) (by decide) (by decide), Option.bind_some]
  have fy : ∀ j, j < c → x2_second I (z + 219) 12 (nI j) = some (I (z + 219 + 2 + j) 1) := fun j hj => by
    unfold x2_second
    rw [ix_eq (by omega) (by decide), Option.bind_some, rd_eq (i := 1) (by decide) (by decide), Option.bind_some]
  rcases h' p hp with ⟨q1, q2⟩ | ⟨i, q, hi, hq, q1, q2, q3, q4⟩
  · left
    refine ⟨ok_val ?_, q1⟩
    unfold x0_ahead
    refine ok_jn (fun _ => False) (fun j hj => absurd hj id) (fun k hk => ?_)
    refine ok_lp (fun s => ∃ i, i ≤ c ∧ s = nI i) (fun s => c - s.toNatClampNeg) ?_ fuel _ ⟨0, Nat.zero_le _, rfl⟩ (clamp_0 (c := c) (by omega))
    rintro again _ ⟨i, hi, rfl⟩ ih
    rw [e1]
    refine ok_ite (fun _ => ok_some rfl) (fun cc => ?_)
    have hlt := lt_of_nle (by omega) hi cc
    rw [fx i hlt, Option.bind_some, nI_add]
    exact ok_f (q2 i hlt) (ih _ ⟨i + 1, hlt, rfl⟩ (clamp_s (by omega) hlt))
  · right
    refine ⟨q, hq, ok_val ?_, q4⟩
    unfold x0_ahead
    refine ok_jn (fun j => j = nI i) ?_ (fun k hk => ?_)
    · rintro _ rfl
      rw [fy i hi, Option.bind_some, q3]
      exact ok_some rfl
    · refine ok_lp (fun s => ∃ j, j ≤ i ∧ s = nI j) (fun s => c - s.toNatClampNeg) ?_ fuel _ ⟨0, Nat.zero_le _, rfl⟩ (clamp_0 (c := c) (by omega))
      rintro again _ ⟨j, hj, rfl⟩ ih
      rw [e1]
      refine ok_f (nI_ge (by omega) (by omega)) ?_
      rw [fx j (by omega), Option.bind_some, nI_add]
      by_cases e : j = i
      · subst e
        exact ok_t q1 (hk _ rfl)
      · exact ok_f (q2 j (by omega)) (ih _ ⟨j + 1, by omega, rfl⟩ (clamp_s (by omega) (by omega)))
theorem line2 {I μ : Mem} {z : Nat} (R : RH I μ (z + 219)) (x1 x2 : Int32) : ∃ v, x0_line I z x1 x2 = some v ∧ m_line μ x1 x2 = some (v, up2 μ 0 0 (nI 0)) := by
  have R' : RH I (up2 μ 0 0 (nI 0)) (z + 219) := R.cong (fun _ _ _ => rfl) (up2_ne (by omega)) (fun i _ => up2_ne (by omega))
  have : ok2 (x0_line I z x1 x2) (m_line μ x1 x2) (fun r t => t = (r, up2 μ 0 0 (nI 0))) := by
    unfold x0_line m_line
    rw [nm_eq, isIn_x, Option.bind_some, isIn_x, Option.bind_some, isIn_m, Option.bind_some, isIn_m, Option.bind_some]
    by_cases c1 : nI 0 ≤ x1 ∧ x1 ≤ nI 11
    · rw [decide_eq_true c1, if_neg bT, if_neg bT]
      by_cases c2 : nI 0 ≤ x2 ∧ x2 ≤ nI 1
      · rw [decide_eq_true c2, if_neg bT, if_neg bT]
        obtain ⟨p, _, hp, rfl⟩ := in_nI (by decide) (by decide) c1
        refine ok2_jj (fun j j' => j' = j) ?_ (fun k k' hk => ?_)
        · rintro j _ rfl
          exact ok2_ii Iff.rfl (fun _ _ => ok2_some rfl) (fun _ _ => ok2_some rfl)
        · refine ok2_lp (fun s s' => s' = s ∧ ∃ p n, p < 12 ∧ n ≤ 12 ∧ s = (nI p, nI n)) (fun s => 12 - s.2.toNatClampNeg) ?_ fuel fuel _ _ ⟨rfl, p, 0, by omega, by decide, rfl⟩ (clamp_0 (c := 12) (by decide)) (clamp_0 (c := 12) (by decide))
          rintro again again' _ _ ⟨rfl, p, n, hp, hn, rfl⟩ ih
          dsimp only at ih ⊢
          refine ok2_ii Iff.rfl (fun _ _ => ok2_some rfl) (fun cc _ => ?_)
          have hlt := lt_of_nle (by omega) hn cc
          rw [rd_eq (i := p) (by omega) (by decide)]
          rcases ahead2 R' hp with ⟨a1, a2⟩ | ⟨q, hq, a1, a2⟩
          · rw [a1, Option.bind_some, Option.bind_some, a2]
            rw [if_pos rfl, Option.bind_some, if_pos nI_0]
            exact hk _ _ rfl
          · rw [a1, Option.bind_some, Option.bind_some, a2, Option.bind_some, Option.bind_some]
            refine ok2_fl (nI_ne_m1 (by omega)) (ok2_fr (nI_ne0 (by omega) (by omega)) (ok2_nr ?_))
            rw [nI_sub (by omega), Nat.add_sub_cancel, nI_add]
            exact ih _ _ ⟨rfl, q, n + 1, hq, by omega, rfl⟩ (clamp_s (by decide) hlt)
      · rw [decide_eq_false c2, if_pos bF, if_pos bF]
        exact ok2_some rfl
    · rw [decide_eq_false c1, if_pos bF, if_pos bF]
      exact ok2_some rfl
  obtain ⟨r, t, h1, h2, rfl⟩ := this
  exact ⟨r, h1, h2⟩
