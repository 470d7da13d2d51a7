/-! ===== acts, quarters ===== -/
section ACT
variable {z : Nat} {kd : Kd} {P : Ptr} {I I' μ μ' : Mem}
def AC (h : Nat) (x1 x3 : Int32) : Prop := (∃ w q, w < 4 ∧ x1 = nI w ∧ q ≤ 99 ∧ x3 = nI q) ∨ (∃ w q, w < 4 ∧ x1 = nI (10 + w) ∧ q ≤ 99 ∧ x3 = nI q) ∨ x1 = nI 20 ∨ (x1 = nI 21 ∧ ∃ t, t < 12 ∧ t ≠ h ∧ x3 = nI t) ∨ x1 = nI 22
theorem can_act {n h : Nat} (hn : n ≤ 12) (en : μ 6 0 = nI n) (S : ST (z + 2) P I μ P I μ) (hh : h < n) (x1 x3 : Int32) (q2 : m_isHouse μ (nI h) = some true) : (x0_canAct I z x1 (nI h) x3 = some false ∧ m_canAct μ x1 (nI h) x3 = some false) ∨ (x0_canAct I z x1 (nI h) x3 = some true ∧ m_canAct μ x1 (nI h) x3 = some true ∧ AC h x1 x3) := by
  have eh : I (z + 2) 14 = nI n := by rw [S.br.houses, en]
  have h12 : h < 12 := by omega
  have ea : ∀ g, g < 12 → x0_at I z (nI g) = some (z + 2 + 245 + 2 * g) := fun g hg => by
    unfold x0_at
    rw [ix_eq (i := g) hg (by decide), Option.bind_some, show z + 247 + 2 * g = z + 2 + 245 + 2 * g by omega]
  unfold x0_canAct m_canAct
  rw [q2, Option.bind_some, if_neg bT, isIn_x, isIn_m, isIn_x, isIn_m, Option.bind_some, Option.bind_some, Option.bind_some, Option.bind_some, ea h h12, Option.bind_some, Option.bind_some, Option.bind_some]
  by_cases c3 : nI 0 ≤ x1 ∧ x1 ≤ nI 3
  · obtain ⟨w, _, hw, rfl⟩ := in_nI (by decide) (by decide) c3
    obtain ⟨v, hv, ev⟩ := S.wl h12 (show w < 4 by omega)
    rw [decide_eq_true c3, if_neg bT, if_neg bT, rd_eq (i := w) (by omega) (by decide), Option.bind_some, wallOf_m μ h12 (by omega), Option.bind_some, bwl S.br h12 (by omega)]
    unfold wl
    simp only [ev, isIn_x, isIn_m, Option.bind_some]
    by_cases c : nI 1 ≤ x3 ∧ x3 ≤ nI v
    · rw [decide_eq_true c]
      obtain ⟨q, _, hq, rfl⟩ := in_nI (by decide) (by omega) c
      exact Or.inr ⟨rfl, rfl, Or.inl ⟨w, q, by omega, rfl, by omega, rfl⟩⟩
    · rw [decide_eq_false c]
      exact Or.inl ⟨rfl, rfl⟩
  · rw [decide_eq_false c3, if_pos bF, if_pos bF]
    by_cases c10 : nI 10 ≤ x1 ∧ x1 ≤ nI 13
    · obtain ⟨w, hw1, hw, rfl⟩ := in_nI (by decide) (by decide) c10
      rw [decide_eq_true c10, if_neg bT, if_neg bT]
      simp only [isIn_x, isIn_m, Option.bind_some]
      by_cases c : nI 1 ≤ x3 ∧ x3 ≤ nI 99
      · rw [decide_eq_true c]
        obtain ⟨q, _, hq, rfl⟩ := in_nI (by decide) (by decide) c
        exact Or.inr ⟨rfl, rfl, Or.inr (Or.inl ⟨w - 10, q, by omega, by rw [show 10 + (w - 10) = w by omega], by omega, rfl⟩)⟩
      · rw [decide_eq_false c]
        exact Or.inl ⟨rfl, rfl⟩
    · rw [decide_eq_false c10, if_pos bF, if_pos bF]
      by_cases c20 : x1 = nI 20
      · rw [if_pos c20, if_pos c20]
        obtain ⟨r, r1, r2⟩ := canWed2 S h12
        simp only [r1, r2, Option.bind_some]
        cases r
        · exact Or.inl ⟨rfl, rfl⟩
        · exact Or.inr ⟨rfl, rfl, Or.inr (Or.inr (Or.inl c20))⟩
      · rw [if_neg c20, if_neg c20]
        by_cases c21 : x1 = nI 21
        · rw [if_pos c21, if_pos c21, nI_add, rd_eq (i := 79 + h) (by omega) (by decide), Option.bind_some, S.br.lodgers h12]
          rcases isHouse2 hn eh en x3 with ⟨t, ht, rfl, p1, p2⟩ | ⟨p1, p2⟩
          · rw [p1, p2, Option.bind_some, Option.bind_some, if_neg bT, if_neg bT]
            by_cases ct : t = h
            · subst ct
              rw [if_pos rfl, if_pos rfl]
              refine Or.inl ⟨rfl, ?_⟩
              split <;> rfl
            · have ne : ¬ nI t = nI h := by rw [nI_eq (by omega) (by omega)]; exact ct
              simp only [if_neg ne, ea t (show t < 12 by omega), Option.bind_some, bsd S.br (show t < 12 by omega), stand_m μ (show t < 12 by omega)]
              cases hsd : sd μ t with
              | false =>
                rw [if_pos bF]
                refine Or.inl ⟨rfl, ?_⟩
                split <;> rfl
              | true =>
                rw [if_neg bT]
                by_cases cl : μ 1 (79 + h) ≤ 0
                · rw [if_pos cl, if_pos cl]; exact Or.inl ⟨rfl, rfl⟩
                · rw [if_neg cl, if_neg cl, if_neg bT]; exact Or.inr ⟨rfl, rfl, Or.inr (Or.inr (Or.inr (Or.inl ⟨c21, t, by omega, ct, rfl⟩)))⟩
          · rw [p1, p2, Option.bind_some, Option.bind_some, if_pos bF, if_pos bF]
            refine Or.inl ⟨rfl, ?_⟩
            split <;> rfl
        · rw [if_neg c21, if_neg c21]
          by_cases c22 : x1 = nI 22
          · rw [if_pos c22, if_pos c22, bsd S.br h12, Option.bind_some, stand_m μ h12, Option.bind_some]
            cases hsd : sd μ h with
            | false => rw [if_pos bF]; exact Or.inl ⟨rfl, rfl⟩
            | true => rw [if_neg bT]; exact Or.inr ⟨rfl, rfl, Or.inr (Or.inr (Or.inr (Or.inr c22)))⟩
          · rw [if_neg c22, if_neg c22]
            exact Or.inl ⟨rfl, rfl⟩
theorem c_act (R : RR z kd P I μ) (x1 x2 x3 : Int32) : ok2 (x0_act kd P I z x1 x2 x3) (m_act μ x1 x2 x3) (fun r t => r.1 = t.1 ∧ RR z kd r.2.1 r.2.2 t.2) := by
  have R' := R.t0 (nI 0)
  unfold x0_act m_act
  rw [nm_eq]
  generalize hν : up2 μ 0 0 (nI 0) = ν at *
  obtain ⟨n, hn, en⟩ := R'.bor.n6
  have eh : I (z + 2) 14 = nI n := by rw [R'.bor.br.houses, en]
  rcases isHouse2 hn eh en x2 with ⟨h, hh, rfl, q1, q2⟩ | ⟨q1, q2⟩
  · rw [q1, Option.bind_some, if_neg bT]
    rcases can_act hn en R'.bor.st hh x1 x3 q2 with ⟨p1, p2⟩ | ⟨p1, p2, p3⟩
    · rw [p1, p2, Option.bind_some, Option.bind_some, if_pos bF, if_pos bF]
      exact ok2_some ⟨rfl, R'⟩
    · rw [p1, p2, Option.bind_some, Option.bind_some, if_neg bT, if_neg bT]
      refine ok2_b (remembers2 R') ?_
      rintro ⟨P2, I2⟩ ν2 R2
      dsimp only at R2 ⊢
      have h12 : h < 12 := by omega
      obtain ⟨lw, cl, sk, cs, of, co, nt, n', A, B, W, hnt⟩ := R2.all
      have S := R2.bor.st
      simp only [jn_eq, isIn_m, Option.bind_some]
      rcases p3 with ⟨w, q, hw, rfl, hq, rfl⟩ | ⟨w, q, hw, rfl, hq, rfl⟩ | rfl | ⟨rfl, t, ht, hth, rfl⟩ | rfl
      · have c20 : ¬ nI w = nI 20 := by rw [nI_eq (by omega) (by decide)]; omega
        have c21 : ¬ nI w = nI 21 := by rw [nI_eq (by omega) (by decide)]; omega
        have c22 : ¬ nI w = nI 22 := by rw [nI_eq (by omega) (by decide)]; omega
        have c4 : ¬ nI 4 ≤ nI w := nI_ge (by omega) (by decide)
        have c10 : ¬ (nI 10 ≤ nI w ∧ nI w ≤ nI 13) := fun q => nI_ge (by omega) (by decide) q.1
        simp only [if_neg c20, if_neg c21, if_neg c22, if_neg c4, decide_eq_false c10, if_pos bF]
        obtain ⟨v, hv, ev⟩ := S.wl h12 hw
        obtain ⟨J, ν3, e1, e2, S3⟩ := nibbles2 A S h12 hw (show q < 2 ^ 29 by omega) ev hv
        have e2' : ((m_wallOf ν2 (nI h) (nI w)).bind fun r22 => (m_hasWall ν2 (nI h) (nI w) (r22 - nI q)).bind fun r23 => (rd r23 1 115 (nI 5)).bind fun v24 => (wr r23 1 115 (nI 5) (v24 + nI q)).bind fun μ25 => (m_notes μ25 (nI 0) (nI h) (nI q)).bind fun r26 => (m_areOut r26 (nI h)).bind fun r27 => some (true, r27)) = some (true, ν3) := by
          have := congrArg (fun o : Option Mem => o.bind fun r => some (true, r)) e2
          simp only [Option.bind_assoc, Option.bind_some] at this
          exact this
        rw [e1, e2', Option.bind_some]
        exact ok2_some ⟨rfl, R2.step S3⟩
      · have c20 : ¬ nI (10 + w) = nI 20 := by rw [nI_eq (by omega) (by decide)]; omega
        have c21 : ¬ nI (10 + w) = nI 21 := by rw [nI_eq (by omega) (by decide)]; omega
        have c22 : ¬ nI (10 + w) = nI 22 := by rw [nI_eq (by omega) (by decide)]; omega
        have c4 : nI 4 ≤ nI (10 + w) := nI_le (by omega) (by omega)
        have c10 : nI 10 ≤ nI (10 + w) ∧ nI (10 + w) ≤ nI 13 := ⟨nI_le (by omega) (by omega), nI_le (by omega) (by decide)⟩
        simp only [if_neg c20, if_neg c21, if_neg c22, if_pos c4, decide_eq_true c10, if_neg bT]
        obtain ⟨v, hv, ev⟩ := S.wl h12 hw
        have ea : x0_at I2 z (nI h) = some (z + 2 + 245 + 2 * h) := by
          unfold x0_at
          rw [ix_eq (i := h) h12 (by decide), Option.bind_some, show z + 247 + 2 * h = z + 2 + 245 + 2 * h by omega]
        have s10 : nI (10 + w) - nI 10 = nI w := by rw [nI_sub (by omega), show 10 + w - 10 = w by omega]
        rw [ea, Option.bind_some, s10, bakes_x S h12 hw ev hv (by omega), Option.bind_some, wallOf_m ν2 h12 hw, Option.bind_some]
        unfold wl
        rw [ev, hw_more h12 hw hv (by omega), Option.bind_some]
        exact ok2_some ⟨rfl, R2.step (S.wset h12 hw (by omega))⟩
      · have c4 : nI 4 ≤ nI 20 := by decide
        have c10 : ¬ (nI 10 ≤ nI 20 ∧ nI 20 ≤ nI 13) := by decide
        have c21 : ¬ nI 20 = nI 21 := by decide
        have c22 : ¬ nI 20 = nI 22 := by decide
        simp only [if_pos c4, decide_eq_false c10, if_pos bF, if_neg c21, if_neg c22, if_true]
        obtain ⟨J, ν3, e1, e2, S3⟩ := weds2 A S h12
        rw [e1, e2, Option.bind_some, Option.bind_some]
        exact ok2_some ⟨rfl, R2.step S3⟩
      · have c4 : nI 4 ≤ nI 21 := by decide
        have c10 : ¬ (nI 10 ≤ nI 21 ∧ nI 21 ≤ nI 13) := by decide
        have c20 : ¬ nI 21 = nI 20 := by decide
        have c22 : ¬ nI 21 = nI 22 := by decide
        simp only [if_pos c4, decide_eq_false c10, if_pos bF, if_neg c20, if_neg c22, if_true]
        obtain ⟨J, ν3, e1, e2, S3⟩ := moves2 S h12 (t := nI t) (Or.inr ⟨t, ht, hth, rfl⟩)
        rw [e1, e2, Option.bind_some, Option.bind_some]
        exact ok2_some ⟨rfl, R2.step S3⟩
      · have c4 : nI 4 ≤ nI 22 := by decide
        have c10 : ¬ (nI 10 ≤ nI 22 ∧ nI 22 ≤ nI 13) := by decide
        have c20 : ¬ nI 22 = nI 20 := by decide
        have c21 : ¬ nI 22 = nI 21 := by decide
        simp only [if_pos c4, decide_eq_false c10, if_pos bF, if_neg c20, if_neg c21, if_true]
        obtain ⟨J, ν3, e1, e2, S3⟩ := razes2 A S h12
        rw [e1, e2, Option.bind_some, Option.bind_some]
        exact ok2_some ⟨rfl, R2.step S3⟩
  · rw [q1, Option.bind_some, if_pos bF]
    have : m_canAct ν x1 x2 x3 = some false := by
      unfold m_canAct
      rw [q2, Option.bind_some, if_pos bF]
    rw [this, Option.bind_some, if_pos bF]
    exact ok2_some ⟨rfl, R'⟩
theorem c_quarters (R : RR z kd P I μ) (x : Int32) : ok2 (x0_quarters kd P I z x) (m_quarters μ x) (fun r t => r.1 = t.1 ∧ RR z kd r.2.1 r.2.2 t.2) := by
  have R' := R.t0 (nI 0)
  unfold x0_quarters m_quarters
  rw [nm_eq]
  generalize hν : up2 μ 0 0 (nI 0) = ν at *
  rw [isIn_x, isIn_m, Option.bind_some, Option.bind_some, rd_eq (i := 0) (by decide) (by decide), Option.bind_some, R'.bor.br.quarter]
  refine ok2_ii Iff.rfl (fun _ _ => ok2_some ⟨rfl, R'⟩) (fun c1 _ => ?_)
  obtain ⟨n, _, hn, rfl⟩ := in_nI (by decide) (by decide) (of_decide_eq_true (sd_bI c1))
  refine ok2_ii Iff.rfl (fun _ _ => ?_) (fun _ _ => ok2_some ⟨rfl, R'⟩)
  refine ok2_for n (fun i s s' => s.1 = s'.1 ∧ s.2.1 = nI i ∧ s'.2.1 = nI i ∧ RR z kd s.2.2.1 s.2.2.2 s'.2.2) (by omega) ?_ ⟨rfl, rfl, rfl, R'⟩
  rintro again again' i ⟨a, _, Q, J⟩ ⟨_, _, ν'⟩ hi ⟨rfl, e1, e2, R2⟩ ih
  dsimp only at e1 e2 R2 ⊢
  subst e1 e2
  refine ok2_ii Iff.rfl (fun _ _ => ok2_some ⟨rfl, R2⟩) (fun c _ => ?_)
  have hlt := nle_iff (by omega) (by omega) c
  refine ok2_b (remembers2 R2) ?_
  rintro ⟨P3, I3⟩ ν3 R3
  dsimp only at R3 ⊢
  obtain ⟨lw, cl, sk, cs, of, co, nt, n', A, B, W, hnt⟩ := R3.all
  refine ok2_b (passes2 A B (TL_of W) R3.bor.st) ?_
  rintro ⟨v, P4, I4⟩ ⟨v', ν4⟩ ⟨ev, S4⟩
  dsimp only at ev S4 ⊢
  subst ev
  rw [nI_add]
  exact ih hlt _ _ ⟨rfl, rfl, rfl, R3.step S4⟩
end ACT
