section WINDB
variable {z : Nat}
def WR (z n : Nat) (I μ : Mem) : Prop := ∀ i, i < n → I (z + 2441 + i) 0 + I (z + 2441 + i) 1 + I (z + 2441 + i) 2 = μ 64 i ∧ I (z + 2441 + i) 3 = μ 65 i
theorem z_add (x : Int32) : nI 0 + x = x := by rw [nI_0, Int32.zero_add]
theorem add_z (x : Int32) : x + nI 0 = x := by rw [nI_0, Int32.add_zero]
theorem window2 (I : Mem) (z : Nat) (μ : Mem) (x : Int32) : ok2 (x0_window I z x) (m_window μ x) (fun r t => r.1 = t.1 ∧ (∀ a, (a < z + 2441 ∨ z + 2462 ≤ a) → r.2 a = I a) ∧ ∀ k, k ≠ 0 → k ≠ 64 → k ≠ 65 → t.2 k = μ k) := by
  unfold x0_window m_window
  rw [nm_eq, isIn_x, Option.bind_some, isIn_m, Option.bind_some]
  by_cases hx : nI 1 ≤ x ∧ x ≤ nI 20
  · rw [decide_eq_true hx, if_neg bT, if_neg bT]
    obtain ⟨m, hm1, hm, rfl⟩ := in_nI (by decide) (by decide) hx
    refine ok2_jj (fun j j' => WR z (m + 1) j j' ∧ (∀ a, (a < z + 2441 ∨ z + 2462 ≤ a) → j a = I a) ∧ ∀ k, k ≠ 0 → k ≠ 64 → k ≠ 65 → j' k = μ k) ?_ (fun k k' hk => ?_)
    · rintro J ν ⟨hW, h1, h2⟩
      rw [rd_eq (i := m) (by omega) (by decide), Option.bind_some, rd_eq (i := m) (by omega) (by decide), Option.bind_some, ← (hW m (by omega)).1, ← (hW m (by omega)).2]
      rw [fuel_10, lp_s]
      dsimp only
      rw [if_neg i40, ix_eq (i := m) (by omega) (by decide), Option.bind_some, rd_eq (i := 0) (by decide) (by decide), Option.bind_some, nI_add, lp_s]
      dsimp only
      rw [if_neg i41, Option.bind_some, rd_eq (i := 0 + 1) (by decide) (by decide), Option.bind_some, nI_add, lp_s]
      dsimp only
      rw [if_neg i42, Option.bind_some, rd_eq (i := 0 + 1 + 1) (by decide) (by decide), Option.bind_some, nI_add, lp_s]
      dsimp only
      rw [if_neg i43, Option.bind_some, rd_eq (i := 0 + 1 + 1 + 1) (by decide) (by decide), Option.bind_some, nI_add, lp_s]
      dsimp only
      rw [if_pos i44, z_add]
      exact ok2_some ⟨rfl, h1, h2⟩
    · refine ok2_lp (fun s s' => ∃ n, n ≤ m + 1 ∧ s.1 = nI n ∧ s'.1 = nI n ∧ WR z n s.2 s'.2 ∧ (∀ a, (a < z + 2441 ∨ z + 2462 ≤ a) → s.2 a = I a) ∧ ∀ k, k ≠ 0 → k ≠ 64 → k ≠ 65 → s'.2 k = μ k) (fun s => m + 1 - s.1.toNatClampNeg) ?_ fuel fuel _ _ ⟨0, by omega, rfl, rfl, fun i hi => by omega, fun _ _ => rfl, fun k h0 _ _ => up2_k h0⟩ (clamp_0 (c := m + 1) (by omega)) (clamp_0 (c := m + 1) (by omega))
      rintro again again' ⟨_, J⟩ ⟨_, ν⟩ ⟨n, hn, e1, e2, hW, h1, h2⟩ ih
      dsimp only at e1 e2 hW h1 h2 ih ⊢
      subst e1 e2
      refine ok2_ii Iff.rfl (fun c _ => ?_) (fun c _ => ?_)
      · rw [nI_ltI (by omega) (by omega)] at c
        rw [show n = m + 1 by omega] at hW
        exact hk _ _ ⟨hW, h1, h2⟩
      · rw [nI_ltI (by omega) (by omega)] at c
        have hn20 : n ≤ 20 := by omega
        change ok2 (lp (wbK z (nI n) again) fuel (nI 0, J)) _ _
        rw [wbK_all hn20]
        have fin : ∀ ν' : Mem, (∀ k, k ≠ 64 → k ≠ 65 → ν' k = ν k) → (∀ i, i ≠ n → ν' 64 i = ν 64 i ∧ ν' 65 i = ν 65 i) → wval z n 0 J + wval z n 1 J + wval z n 2 J = ν' 64 n → wval z n 3 J = ν' 65 n → ok2 (again (nI (n + 1), up2 (up2 (up2 (up2 J (z + 2441 + n) 0 (wval z n 0 J)) (z + 2441 + n) 1 (wval z n 1 J)) (z + 2441 + n) 2 (wval z n 2 J)) (z + 2441 + n) 3 (wval z n 3 J))) (again' (nI (n + 1), ν')) (fun r t => r.1 = t.1 ∧ (∀ a, (a < z + 2441 ∨ z + 2462 ≤ a) → r.2 a = I a) ∧ ∀ k, k ≠ 0 → k ≠ 64 → k ≠ 65 → t.2 k = μ k) := by
          intro ν' f1 f2 f3 f4
          refine ih _ _ ⟨n + 1, by omega, rfl, rfl, fun i hi => ?_, fun a ha => ?_, fun k k0 k1 k2 => ?_⟩ (by
            show m + 1 - (nI (n + 1)).toNatClampNeg < m + 1 - (nI n).toNatClampNeg
            rw [nI_clamp (by omega), nI_clamp (by omega)]
            omega)
          · dsimp only
            by_cases e : i = n
            · subst e
              simp (disch := omega) only [up2_same, up2_ne, f3, f4]
              exact ⟨trivial, trivial⟩
            · rw [up2_k (by omega), up2_k (by omega), up2_k (by omega), up2_k (by omega), (f2 i e).1, (f2 i e).2]
              exact hW i (by omega)
          · dsimp only
            rw [up2_k (by omega), up2_k (by omega), up2_k (by omega), up2_k (by omega)]
            exact h1 a ha
          · dsimp only
            rw [f1 k k1 k2]
            exact h2 k k0 k1 k2
        have v0 : wval z n 0 J = if n = 0 then nI 1 else nI 0 := by
          unfold wval
          by_cases c : n = 0
          · rw [if_pos ⟨c, rfl⟩, if_pos c]
          · rw [if_neg (by omega), if_neg (by omega), if_neg c]
        have v1 : wval z n 1 J = if 1 ≤ n then ν 64 (n - 1) + ν 65 (n - 1) else nI 0 := by
          unfold wval wadd
          rw [if_neg (by omega)]
          by_cases c : 1 ≤ n
          · rw [if_pos ⟨by decide, c⟩, if_pos c, if_neg (by omega), if_neg (by omega), if_neg (by omega), if_neg (by omega), z_add, (hW (n - 1) (by omega)).1, (hW (n - 1) (by omega)).2]
          · rw [if_neg (by omega), if_neg c]
        have v2 : wval z n 2 J = if 2 ≤ n then ν 64 (n - 2) + ν 65 (n - 2) else nI 0 := by
          unfold wval wadd
          rw [if_neg (by omega)]
          by_cases c : 2 ≤ n
          · rw [if_pos ⟨by decide, c⟩, if_pos c, if_neg (by omega), if_neg (by omega), if_neg (by omega), if_neg (by omega), z_add, (hW (n - 2) (by omega)).1, (hW (n - 2) (by omega)).2]
          · rw [if_neg (by omega), if_neg c]
        have v3 : wval z n 3 J = if 3 ≤ n then ν 64 (n - 3) else nI 0 := by
          unfold wval wadd
          rw [if_neg (by omega)]
          by_cases c : 3 ≤ n
          · rw [if_pos ⟨by decide, c⟩, if_pos c, if_neg (by omega), if_neg (by omega), if_neg (by omega), if_pos ⟨rfl, rfl⟩, z_add, add_z, (hW (n - 3) (by omega)).1]
          · rw [if_neg (by omega), if_neg c]
        rw [v0, v1, v2, v3] at fin
        -- the model
        refine ok2_jr ?_
        by_cases c0 : n = 0
        · subst c0
          refine ok2_tr nI_0 ?_
          dsimp only
          rw [wr_eq (i := 0) (by decide) (by decide), Option.bind_some, nI_add]
          refine ok2_jr (ok2_tr (by decide) (ok2_jr (ok2_tr (by decide) ?_)))
          dsimp only
          rw [wr_eq (i := 0) (by decide) (by decide), Option.bind_some]
          rw [v0, v1, v2, v3]
          refine fin _ (fun k k1 k2 => by rw [up2_k k2, up2_k k1]) (fun i hi => ⟨by rw [up2_ne (by omega), up2_ne (by omega)], by rw [up2_ne (by omega), up2_ne (by omega)]⟩) ?_ ?_
          · rw [up2_ne (by omega), up2_same, if_pos rfl, if_neg (by decide), if_neg (by decide), add_z, add_z]
          · rw [up2_same, if_neg (by decide)]
        · refine ok2_fr (nI_ne0 (by omega) (by omega)) ?_
          have s1 : nI n - nI 1 = nI (n - 1) := nI_sub (by omega)
          rw [s1, rd_eq (i := n - 1) (by omega) (by decide), Option.bind_some, rd_eq (i := n - 1) (by omega) (by decide), Option.bind_some]
          dsimp only
          rw [wr_eq (i := n) (by omega) (by decide), Option.bind_some, nI_add, v0, v1, v2, v3]
          refine ok2_jr ?_
          by_cases c1 : n = 1
          · refine ok2_tr (nI_le (by omega) (by decide)) (ok2_jr (ok2_tr (nI_le (by omega) (by decide)) ?_))
            dsimp only
            rw [wr_eq (i := n) (by omega) (by decide), Option.bind_some]
            refine fin _ (fun k k1 k2 => by rw [up2_k k2, up2_k k1]) (fun i hi => ⟨by rw [up2_ne (by omega), up2_ne (by omega)], by rw [up2_ne (by omega), up2_ne (by omega)]⟩) ?_ ?_
            · rw [up2_ne (by omega), up2_same, if_neg c0, if_pos (by omega), if_neg (by omega), add_z, z_add]
            · rw [up2_same, if_neg (by omega)]
          · refine ok2_fr (nI_ge (by omega) (by omega)) ?_
            have s2 : nI n - nI 2 = nI (n - 2) := nI_sub (by omega)
            rw [s2, rd_eq (i := n) (by omega) (by decide), Option.bind_some, rd_eq (i := n - 2) (by omega) (by decide), Option.bind_some, rd_eq (i := n - 2) (by omega) (by decide), Option.bind_some, wr_eq (i := n) (by omega) (by decide), Option.bind_some, up2_same, up2_ne (by omega), up2_ne (by omega), up2_up2]
            refine ok2_jr ?_
            by_cases c2 : n = 2
            · refine ok2_tr (nI_le (by omega) (by decide)) ?_
              dsimp only
              rw [wr_eq (i := n) (by omega) (by decide), Option.bind_some]
              refine fin _ (fun k k1 k2 => by rw [up2_k k2, up2_k k1]) (fun i hi => ⟨by rw [up2_ne (by omega), up2_ne (by omega)], by rw [up2_ne (by omega), up2_ne (by omega)]⟩) ?_ ?_
              · rw [up2_ne (by omega), up2_same, if_neg c0, if_pos (by omega), if_pos (by omega), z_add, ← Int32.add_assoc]
              · rw [up2_same, if_neg (by omega)]
            · refine ok2_fr (nI_ge (by omega) (by omega)) ?_
              have s3 : nI n - nI 3 = nI (n - 3) := nI_sub (by omega)
              rw [s3, rd_eq (i := n - 3) (by omega) (by decide), Option.bind_some]
              dsimp only
              rw [wr_eq (i := n) (by omega) (by decide), Option.bind_some, up2_ne (show (64 : Nat) ≠ 64 ∨ n - 3 ≠ n by omega)]
              refine fin _ (fun k k1 k2 => by rw [up2_k k2, up2_k k1]) (fun i hi => ⟨by rw [up2_ne (by omega), up2_ne (by omega)], by rw [up2_ne (by omega), up2_ne (by omega)]⟩) ?_ ?_
              · rw [up2_ne (by omega), up2_same, if_neg c0, if_pos (by omega), if_pos (by omega), z_add, ← Int32.add_assoc]
              · rw [up2_same, if_pos (by omega)]
  · rw [decide_eq_false hx, if_pos bF, if_pos bF]
    exact ok2_some ⟨rfl, fun _ _ => rfl, fun k h0 _ _ => up2_k h0⟩
end WINDB
