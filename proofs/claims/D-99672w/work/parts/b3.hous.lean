/-! ===== a house, rows that are told ===== -/
section HOUSE
variable {z : Nat} {kd : Kd} {P : Ptr} {I I' μ μ' : Mem}
def begX (I : Mem) (a : Nat) (x1 x2 x3 : Int32) : Mem := up2 (up2 (up2 (up2 (up2 (up2 (up2 (up2 (up2 (up2 (up2 I (a + 1) 0 x1) (a + 1) 1 x1) (a + 1) 2 x1) (a + 1) 3 x1) a 1 x2) a 2 x3) a 3 (nI 0)) a 4 (nI 0)) a 5 (nI 1)) a 6 (nI 0)) a 7 (nI 0)
theorem begins_x (I : Mem) (a : Nat) (x1 x2 x3 : Int32) : x3_begins I a x1 x2 x3 = some (begX I a x1 x2 x3) := by
  unfold x3_begins
  rw [jn_eq, fuel_10, lp_s]
  dsimp only
  rw [if_neg i40, wr_eq (i := 0) (by decide) (by decide), Option.bind_some, nI_add, lp_s]
  dsimp only
  rw [if_neg i41, wr_eq (i := 0 + 1) (by decide) (by decide), Option.bind_some, nI_add, lp_s]
  dsimp only
  rw [if_neg i42, wr_eq (i := 0 + 1 + 1) (by decide) (by decide), Option.bind_some, nI_add, lp_s]
  dsimp only
  rw [if_neg i43, wr_eq (i := 0 + 1 + 1 + 1) (by decide) (by decide), Option.bind_some, nI_add, lp_s]
  dsimp only
  rw [if_pos i44]
  rfl
def begM (μ : Mem) (n : Nat) (x1 x2 x3 : Int32) : Mem := up2 (up2 (up2 (up2 (up2 (up2 (up2 (up2 (up2 (up2 (up2 μ 1 (7 + 4 * n + 0) x1) 1 (7 + 4 * n + 1) x1) 1 (7 + 4 * n + 2) x1) 1 (7 + 4 * n + 3) x1) 1 (55 + n) (nI 0)) 1 (67 + n) (nI 0)) 1 (79 + n) (nI 1)) 1 (91 + n) (nI 0)) 1 (103 + n) (nI 0)) 7 n x2) 8 n x3
theorem begM_eq (μ : Mem) (n : Nat) (x1 x2 x3 : Int32) : begM μ n x1 x2 x3 = up2 (up2 (up2 (up2 (up2 (up2 (up2 (up2 (up2 (up2 (up2 μ 1 (7 + 4 * n + 0) x1) 1 (7 + 4 * n + 1) x1) 1 (7 + 4 * n + 2) x1) 1 (7 + 4 * n + 3) x1) 7 n x2) 8 n x3) 1 (55 + n) (nI 0)) 1 (67 + n) (nI 0)) 1 (79 + n) (nI 1)) 1 (103 + n) (nI 0)) 1 (91 + n) (nI 0) := by
  unfold begM
  funext k
  by_cases e1 : k = 1
  · subst e1
    simp only [up2_at, up2_k (show (1 : Nat) ≠ 7 by decide), up2_k (show (1 : Nat) ≠ 8 by decide)]
    exact fa_upd_swap _ (by omega) _ _
  · by_cases e7 : k = 7
    · subst e7
      simp only [up2_at, up2_k (show (7 : Nat) ≠ 1 by decide), up2_k (show (7 : Nat) ≠ 8 by decide)]
    · by_cases e8 : k = 8
      · subst e8
        simp only [up2_at, up2_k (show (8 : Nat) ≠ 1 by decide), up2_k (show (8 : Nat) ≠ 7 by decide)]
      · simp only [up2_k e1, up2_k e7, up2_k e8]
theorem beg2 (B : BR I (z + 2) μ) {n : Nat} (hn : n < 12) (x1 x2 x3 : Int32) : BR (begX I (z + 2 + 245 + 2 * n) x1 x2 x3) (z + 2) (begM μ n x1 x2 x3) := by
  rw [begM_eq]
  unfold begX
  rw [show z + 2 + 245 + 2 * n + 1 = z + 2 + 246 + 2 * n by omega]
  exact ((((((((((B.set (mi_row (by omega)) (xl_wall hn (by decide)) _).set (mi_row (by omega)) (xl_wall hn (by decide)) _).set (mi_row (by omega)) (xl_wall hn (by decide)) _).set (mi_row (by omega)) (xl_wall hn (by decide)) _).set (Or.inr (Or.inl ⟨rfl, hn⟩)) rfl _).set (Or.inr (Or.inr (Or.inl ⟨rfl, hn⟩))) rfl _).set (mi_row (by omega)) (xl_hard hn) _).set (mi_row (by omega)) (xl_icing hn) _).set (mi_row (by omega)) (xl_lodgers hn) _).set (mi_row (by omega)) (xl_age hn) _).set (mi_row (by omega)) (xl_door hn) _
theorem c_house (R : RR z kd P I μ) (x1 x2 x3 : Int32) : ok2 (x0_house I z x1 x2 x3) (m_house μ x1 x2 x3) (fun r t => r.1 = t.1 ∧ RR z kd P r.2 t.2) := by
  have R' := R.t0 (nI 0)
  obtain ⟨n, hn, en⟩ := R'.bor.n6
  have eh : I (z + 2) 14 = nI n := by rw [R'.bor.br.houses, en]
  unfold x0_house m_house x0_forgets
  rw [nm_eq, isIn_x, isIn_x, isIn_x, isIn_m, isIn_m, isIn_m, Option.bind_some, Option.bind_some, Option.bind_some, Option.bind_some, Option.bind_some, Option.bind_some]
  generalize hν : up2 μ 0 0 (nI 0) = ν at *
  refine ok2_ii Iff.rfl (fun _ _ => ok2_some ⟨rfl, R'⟩) (fun c1 _ => ?_)
  obtain ⟨w, _, hw, rfl⟩ := in_nI (by decide) (by decide) (of_decide_eq_true (sd_bI c1))
  refine ok2_ii Iff.rfl (fun _ _ => ok2_some ⟨rfl, R'⟩) (fun c2 _ => ?_)
  refine ok2_ii Iff.rfl (fun _ _ => ok2_some ⟨rfl, R'⟩) (fun c3 _ => ?_)
  rw [eh, en]
  refine ok2_ii Iff.rfl (fun _ _ => ok2_some ⟨rfl, R'⟩) (fun c4 _ => ?_)
  have hn12 : n < 12 := by
    rcases Nat.lt_or_ge n 12 with h | h
    · exact h
    · exact absurd (by rw [show n = 12 by omega]) c4
  have ea : x0_at I z (nI n) = some (z + 2 + 245 + 2 * n) := by
    unfold x0_at
    rw [ix_eq (i := n) hn12 (by decide), Option.bind_some, show z + 247 + 2 * n = z + 2 + 245 + 2 * n by omega]
  rw [ea, Option.bind_some, begins_x, Option.bind_some, nm_eq, nm_eq, Option.bind_some]
  have x14 : begX I (z + 2 + 245 + 2 * n) (nI w) x2 x3 (z + 2) 14 = nI n := by
    unfold begX
    simp (disch := omega) only [up2_same, up2_ne]
    exact eh
  rw [x14, nI_add]
  -- the model
  have em : ∀ {R : Type} (k : Mem → Option R), lp (fun (again18 : Int32 × Mem → Option R) (j17 : Int32 × Mem) => if (nI 4) ≤ j17.1 then k j17.2 else (wr j17.2 1 115 (((nI 7) + ((nI 4) * (j17.2 6 0))) + j17.1) (nI w)).bind fun μ20 => again18 ((j17.1 + (nI 1)), μ20)) fuel ((nI 0), ν) = k (up2 (up2 (up2 (up2 ν 1 (7 + 4 * n + 0) (nI w)) 1 (7 + 4 * n + 1) (nI w)) 1 (7 + 4 * n + 2) (nI w)) 1 (7 + 4 * n + 3) (nI w)) := by
    intro R k
    have s6 : ∀ (M : Mem) (i : Nat), M 6 0 = nI n → up2 M 1 i (nI w) 6 0 = nI n := fun M i h => by rw [up2_k (by decide)]; exact h
    have a1 := s6 ν (7 + 4 * n + 0) en
    have a2 := s6 _ (7 + 4 * n + 1) a1
    have a3 := s6 _ (7 + 4 * n + 2) a2
    rw [fuel_10, lp_s]
    dsimp only
    rw [if_neg i40, en, pk_mul, nI_add, nI_add, wr_eq (i := 7 + 4 * n + 0) (by omega) (by decide), Option.bind_some, nI_add, lp_s]
    dsimp only
    rw [if_neg i41, a1, pk_mul, nI_add, nI_add, wr_eq (i := 7 + 4 * n + (0 + 1)) (by omega) (by decide), Option.bind_some, nI_add, lp_s]
    dsimp only
    rw [if_neg i42, a2, pk_mul, nI_add, nI_add, wr_eq (i := 7 + 4 * n + (0 + 1 + 1)) (by omega) (by decide), Option.bind_some, nI_add, lp_s]
    dsimp only
    rw [if_neg i43, a3, pk_mul, nI_add, nI_add, wr_eq (i := 7 + 4 * n + (0 + 1 + 1 + 1)) (by omega) (by decide), Option.bind_some, nI_add, lp_s]
    dsimp only
    rw [if_pos i44]
  refine ok2_jgenr (fun kk ekk => ?_)
  rw [em kk]
  subst ekk
  dsimp only
  have b6 : ∀ (M : Mem) (k i : Nat) (x : Int32), k ≠ 6 → M 6 0 = nI n → up2 M k i x 6 0 = nI n := fun M k i x hk h => by rw [up2_k (fun e => hk e.symm)]; exact h
  have g0 : up2 (up2 (up2 (up2 ν 1 (7 + 4 * n + 0) (nI w)) 1 (7 + 4 * n + 1) (nI w)) 1 (7 + 4 * n + 2) (nI w)) 1 (7 + 4 * n + 3) (nI w) 6 0 = nI n := b6 _ _ _ _ (by decide) (b6 _ _ _ _ (by decide) (b6 _ _ _ _ (by decide) (b6 _ _ _ _ (by decide) en)))
  rw [g0, nI_add, wr_eq (i := 55 + n) (by omega) (by decide), Option.bind_some]
  have g1 := b6 _ 1 (55 + n) (nI 0) (by decide) g0
  rw [g1, nI_add, wr_eq (i := 67 + n) (by omega) (by decide), Option.bind_some]
  have g2 := b6 _ 1 (67 + n) (nI 0) (by decide) g1
  rw [g2, nI_add, wr_eq (i := 79 + n) (by omega) (by decide), Option.bind_some]
  have g3 := b6 _ 1 (79 + n) (nI 1) (by decide) g2
  rw [g3, nI_add, wr_eq (i := 91 + n) (by omega) (by decide), Option.bind_some]
  have g4 := b6 _ 1 (91 + n) (nI 0) (by decide) g3
  rw [g4, nI_add, wr_eq (i := 103 + n) (by omega) (by decide), Option.bind_some]
  have g5 := b6 _ 1 (103 + n) (nI 0) (by decide) g4
  rw [g5, wr_eq (i := n) hn12 (by decide), Option.bind_some]
  have g6 := b6 _ 7 n x2 (by decide) g5
  rw [g6, wr_eq (i := n) hn12 (by decide), Option.bind_some]
  have g7 := b6 _ 8 n x3 (by decide) g6
  rw [g7, nm_eq, nm_eq, nI_add]
  have hM : up2 (up2 (up2 (up2 (up2 (up2 (up2 (up2 (up2 (up2 (up2 ν 1 (7 + 4 * n + 0) (nI w)) 1 (7 + 4 * n + 1) (nI w)) 1 (7 + 4 * n + 2) (nI w)) 1 (7 + 4 * n + 3) (nI w)) 1 (55 + n) (nI 0)) 1 (67 + n) (nI 0)) 1 (79 + n) (nI 1)) 1 (91 + n) (nI 0)) 1 (103 + n) (nI 0)) 7 n x2) 8 n x3 = begM ν n (nI w) x2 x3 := rfl
  rw [hM]
  have rgM : ∀ i, i < 115 → rg i (begM ν n (nI w) x2 x3 1 i) := by
    intro i hi
    unfold begM
    rw [up2_k (by decide), up2_k (by decide)]
    have hw0 : ∀ (M : Mem) (j : Nat) (x : Int32), (∀ i, i < 115 → rg i (M 1 i)) → rg j x → ∀ i, i < 115 → rg i (up2 M 1 j x 1 i) := fun M j x h hx i hi => by
      by_cases e : i = j
      · subst e; rw [up2_same]; exact hx
      · rw [up2_ne (Or.inr e)]; exact h i hi
    refine hw0 _ _ _ (hw0 _ _ _ (hw0 _ _ _ (hw0 _ _ _ (hw0 _ _ _ (hw0 _ _ _ (hw0 _ _ _ (hw0 _ _ _ (hw0 _ _ _ R'.bor.rgs ?_) ?_) ?_) ?_) ?_) ?_) ?_) ?_) ?_ i hi
    · exact rg_wall (by omega) (by omega) hw
    · exact rg_wall (by omega) (by omega) hw
    · exact rg_wall (by omega) (by omega) hw
    · exact rg_wall (by omega) (by omega) hw
    · exact rg_no _ (by omega) (by omega) (by omega) (by omega)
    · exact rg_no _ (by omega) (by omega) (by omega) (by omega)
    · exact rg_no _ (by omega) (by omega) (by omega) (by omega)
    · exact rg_door (by omega) (by omega) (Or.inl rfl)
    · exact rg_age (by omega) (by omega)
  have k9 : ∀ k, k ≠ 1 → k ≠ 7 → k ≠ 8 → begM ν n (nI w) x2 x3 k = ν k := fun k h1 h7 h8 => by
    unfold begM
    simp only [up2_k h1, up2_k h7, up2_k h8]
  have b12 : begM ν n (nI w) x2 x3 1 2 = ν 1 2 := by
    unfold begM
    simp (disch := omega) only [up2_same, up2_ne]
  have xk : ∀ a, ¬ (z + 247 ≤ a ∧ a < z + 271) → begX I (z + 2 + 245 + 2 * n) (nI w) x2 x3 a = I a := fun a ha => by
    unfold begX
    simp only [up2_k (show a ≠ z + 2 + 245 + 2 * n + 1 by omega), up2_k (show a ≠ z + 2 + 245 + 2 * n by omega)]
  refine ok2_some ⟨?_, ?_⟩
  · dsimp only
    rw [up2_k (by omega), up2_same, up2_k (by decide), up2_same]
  · dsimp only
    refine R'.own (up2_same _ _ _ _) (up2_same _ _ _ _) ?_ (fun i hi => by rw [up2_k (by decide), up2_k (by decide)]; exact rgM i hi) (by rw [up2_k (by decide), up2_k (by decide)]; exact b12) ⟨n + 1, by omega, by rw [up2_k (by decide), up2_same]⟩ (fun j hj => by rw [up2_ne (Or.inr hj), up2_k (by omega), xk z (by omega)]) (fun a h1 h2 => by rw [up2_k h1, up2_k (by omega), xk a (by omega)]) (by rw [up2_k (by omega), up2_ne (by omega), xk (z + 2) (by omega)]) (fun k h1 h3 h6 h7 h8 => by rw [up2_k h3, up2_k h6, k9 k h1 h7 h8])
    exact ((beg2 R'.bor.br hn12 (nI w) x2 x3).set (Or.inr (Or.inr (Or.inr (Or.inl ⟨rfl, rfl⟩)))) rfl (nI (n + 1))).cong (fun a h1 h2 _ => up2_k (by omega)) (fun k hk => up2_k (by omega))
end HOUSE
