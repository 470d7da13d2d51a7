/-! ===== the bites ===== -/
theorem bT : ¬ bI true = 0 := by decide
theorem bF : bI false = 0 := by decide
theorem whose2 {I μ : Mem} {z : Nat} (R : R2 I μ (z + 183) 8 51 52 53 0 255 0 9) (x1 x2 : Int32) : ∃ v, x0_whose I z x1 x2 = some v ∧ m_whose μ x1 x2 = some (v, up2 μ 0 0 (nI 0)) := by
  have R' : R2 I (up2 μ 0 0 (nI 0)) (z + 183) 8 51 52 53 0 255 0 9 := R.cong (fun _ _ _ => rfl) (up2_ne (by omega)) (fun i _ => up2_ne (by omega)) (fun i _ => up2_ne (by omega))
  obtain ⟨c, hc, e1, e2, h⟩ := R'
  have : ok2 (x0_whose I z x1 x2) (m_whose μ x1 x2) (fun r t => t = (r, up2 μ 0 0 (nI 0))) := by
    unfold x0_whose m_whose x0_isBite
    rw [nm_eq, isIn_x, Option.bind_some, isIn_x, Option.bind_some, isIn_m, Option.bind_some, isIn_m, Option.bind_some]
    by_cases c1 : nI 0 ≤ x1 ∧ x1 ≤ nI 255
    · rw [decide_eq_true c1, if_neg bT, if_neg bT]
      by_cases c2 : nI 0 ≤ x2 ∧ x2 ≤ nI 9
      · rw [decide_eq_true c2, if_neg bT, if_neg bT, Option.bind_some, if_neg bT]
        refine ok2_lp (fun s s' => ∃ i, i ≤ c ∧ s.2 = nI i ∧ s' = s) (fun s => c - s.2.toNatClampNeg) ?_ fuel fuel _ _ ⟨0, Nat.zero_le _, rfl, rfl⟩ (clamp_0 (c := c) (by omega)) (clamp_0 (c := c) (by omega))
        rintro again again' ⟨s1, _⟩ _ ⟨i, hi, rfl, rfl⟩ ih
        dsimp only at ih ⊢
        rw [e1, e2]
        refine ok2_ii Iff.rfl (fun _ _ => ok2_some rfl) (fun cc _ => ?_)
        have hlt := lt_of_nle (by omega) hi cc
        have go : ∀ t : Int32, ok2 (again (t, nI (i + 1))) (again' (t, nI (i + 1))) (fun r t => t = (r, up2 μ 0 0 (nI 0))) := fun t => ih _ _ ⟨i + 1, hlt, rfl, rfl⟩ (clamp_s (by omega) hlt)
        have fx : x2_first I (z + 183) 8 (nI i) = some (up2 μ 0 0 (nI 0) 52 i) := by
          unfold x2_first
          rw [ix_eq (by omega) (by decide), Option.bind_some, rd_eq (i := 0) (by decide) (by decide), Option.bind_some, (h i hlt).1.1]
        have fy : x2_second I (z + 183) 8 (nI i) = some (up2 μ 0 0 (nI 0) 53 i) := by
          unfold x2_second
          rw [ix_eq (by omega) (by decide), Option.bind_some, rd_eq (i := 1) (by decide) (by decide), Option.bind_some, (h i hlt).1.2]
        rw [fx, Option.bind_some, rd_eq (i := i) (by omega) (by decide), Option.bind_some, nI_add]
        refine ok2_jl ?_
        refine ok2_ii Iff.rfl (fun _ _ => ?_) (fun _ _ => ?_)
        · rw [fy, Option.bind_some, rd_eq (i := i) (by omega) (by decide), Option.bind_some]
          refine ok2_ii Iff.rfl (fun _ _ => ?_) (fun _ _ => ?_)
          · dsimp only
            rw [or0]
            exact go _
          · exact ok2_nr (go _)
        · dsimp only
          rw [or0]
          exact go _
      · rw [decide_eq_false c2, if_pos bF, if_pos bF, Option.bind_some, if_pos bF]
        exact ok2_some rfl
    · rw [decide_eq_false c1, if_pos bF, if_pos bF, Option.bind_some, if_pos bF]
      exact ok2_some rfl
  obtain ⟨r, t, h1, h2, rfl⟩ := this
  exact ⟨r, h1, h2⟩
