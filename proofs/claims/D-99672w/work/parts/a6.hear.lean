theorem isHouse2 {I μ : Mem} {z n : Nat} (hn : n ≤ 12) (e1 : I (z + 2) 14 = nI n) (e2 : μ 6 0 = nI n) (x : Int32) : (∃ h, h < n ∧ x = nI h ∧ x0_isHouse I z x = some true ∧ m_isHouse μ x = some true) ∨ (x0_isHouse I z x = some false ∧ m_isHouse μ x = some false) := by
  unfold x0_isHouse m_isHouse
  rw [e1, e2, isIn_x, Option.bind_some]
  by_cases c0 : x < 0
  · refine Or.inr ⟨?_, if_pos c0⟩
    rw [decide_eq_false]
    intro h
    rw [nI_0] at h
    exact (fa_of_lt c0).2.1 h.1
  · obtain ⟨j, hj, rfl⟩ := nI_of c0
    rw [if_neg c0]
    by_cases c1 : n ≤ j
    · rw [if_pos (nI_le c1 hj)]
      refine Or.inr ⟨?_, rfl⟩
      rw [decide_eq_false]
      intro h
      cases n with
      | zero =>
        have h2 := h.2
        rw [nI_sub1, nI_0, Int32.zero_add] at h2
        have := (fa_le _ _).mp h2
        rw [nI_toInt hj] at this
        have e : (-1 : Int32).toInt = -1 := by decide
        omega
      | succ n =>
        have h2 := h.2
        rw [nI_sub (by omega), Nat.add_sub_cancel] at h2
        have := le_iff hj (by omega) h2
        omega
    · rw [if_neg (nI_ge (by omega) (by omega))]
      refine Or.inl ⟨j, by omega, rfl, ?_, rfl⟩
      rw [decide_eq_true]
      refine ⟨nI_le (Nat.zero_le _) hj, ?_⟩
      rw [nI_sub (by omega)]
      exact nI_le (by omega) (by omega)
section HEAR
variable {kd : Kd} {z n nt : Nat} {P : Ptr} {I μ : Mem}
theorem cost2 (A : BA kd (z + 2) n nt P I μ) (S : ST (z + 2) P I μ P I μ) (hnt : nt ≠ z + 2424) (x1 x2 : Int32) (tog : Bool) : ok2 (x0_cost kd P I z x1 x2 tog) (m_costOf μ x1 x2 (!tog)) (fun r t => r.1 = t.1 ∧ (∀ c, c ≠ z + 2424 → r.2 c = I c) ∧ ∀ k, k ≠ 41 → t.2 k = μ k) := by
  have hn := A.hn
  have eh : I (z + 2) 14 = nI n := by rw [S.br.houses, A.hm]
  unfold x0_cost m_costOf
  have no : ok2 (some ((-1 : Int32), I)) (some ((-1 : Int32), μ)) (fun r t => r.1 = t.1 ∧ (∀ c, c ≠ z + 2424 → r.2 c = I c) ∧ ∀ k, k ≠ 41 → t.2 k = μ k) := ok2_some ⟨rfl, fun _ _ => rfl, fun _ _ => rfl⟩
  rcases isHouse2 hn eh A.hm x1 with ⟨a, ha, rfl, q1, q2⟩ | ⟨q1, q2⟩
  · rw [q1, q2, Option.bind_some, Option.bind_some, if_neg bT, if_neg bT]
    rcases isHouse2 hn eh A.hm x2 with ⟨b, hb, rfl, q1, q2⟩ | ⟨q1, q2⟩
    · rw [q1, q2, Option.bind_some, Option.bind_some, if_neg bT, if_neg bT]
      refine ok2_b (costs2 A S hnt ha tog) ?_
      rintro J ν ⟨⟨f, hf⟩, f1, f2⟩
      have hct : fb_ct (fun k => (f k).isSome) n ≤ n := fb_ct_le _ _
      rw [rd_eq (i := b) (by omega) (by decide), Option.bind_some, rd_eq (i := b) (by omega) (by decide), Option.bind_some, Option.bind_some, Option.bind_some]
      rcases hf b hb with ⟨_, jb, nb⟩ | ⟨v, _, hv, jb, nb⟩
      · rw [jb, nb]
        exact ok2_tl rfl (ok2_tr rfl (ok2_some ⟨rfl, f1, f2⟩))
      · rw [jb, nb]
        refine ok2_fl (fun e => ?_) (ok2_fr (fun e => ?_) (ok2_some ⟨rfl, f1, f2⟩))
        · have : v = 1000000 := (nI_eq (by omega) (by decide)).mp e
          omega
        · have : v = 100000000 := (nI_eq (by omega) (by decide)).mp e
          omega
    · rw [q1, q2, Option.bind_some, Option.bind_some, if_pos bF, if_pos bF]
      exact no
  · rw [q1, q2, Option.bind_some, Option.bind_some, if_pos bF, if_pos bF]
    exact no
theorem hears2 (A : BA kd (z + 2) n nt P I μ) (S : ST (z + 2) P I μ P I μ) (hnt : nt ≠ z + 2424) (x1 x2 : Int32) : ok2 (x0_hears kd P I z x1 x2) (m_hears μ x1 x2) (fun r t => r.1 = t.1 ∧ (∀ c, c ≠ z + 2424 → r.2 c = I c) ∧ ∀ k, k ≠ 0 → k ≠ 41 → t.2 k = μ k) := by
  unfold x0_hears m_hears
  rw [nm_eq]
  refine ok2_b (cost2 A.t0 S.t0 hnt x1 x2 false) ?_
  rintro ⟨v, J⟩ ⟨v', ν⟩ ⟨e, f1, f2⟩
  exact ok2_some ⟨e, f1, fun k k0 k1 => by dsimp only at f2 ⊢; rw [f2 k k1, up2_k k0]⟩
theorem ants2 (A : BA kd (z + 2) n nt P I μ) (S : ST (z + 2) P I μ P I μ) (hnt : nt ≠ z + 2424) (x1 x2 : Int32) : ok2 (x0_ants kd P I z x1 x2) (m_ants μ x1 x2) (fun r t => r.1 = t.1 ∧ (∀ c, c ≠ z + 2424 → r.2 c = I c) ∧ ∀ k, k ≠ 0 → k ≠ 41 → t.2 k = μ k) := by
  unfold x0_ants m_ants
  rw [nm_eq]
  refine ok2_b (cost2 A.t0 S.t0 hnt x1 x2 true) ?_
  rintro ⟨v, J⟩ ⟨v', ν⟩ ⟨e, f1, f2⟩
  exact ok2_some ⟨e, f1, fun k k0 k1 => by dsimp only at f2 ⊢; rw [f2 k k1, up2_k k0]⟩
theorem heard2 (A : BA kd (z + 2) n nt P I μ) (S : ST (z + 2) P I μ P I μ) (hnt : nt ≠ z + 2424) (x1 x2 : Int32) : ok2 (x0_heard kd P I z x1 x2) (m_heard μ x1 x2) (fun r t => r.1 = t.1 ∧ (∀ c, c ≠ z + 2424 → r.2 c = I c) ∧ ∀ k, k ≠ 0 → k ≠ 41 → t.2 k = μ k) := by
  have hn := A.hn
  have eh : I (z + 2) 14 = nI n := by rw [S.br.houses, A.hm]
  unfold x0_heard m_heard
  rw [nm_eq, isIn_x, isIn_m, Option.bind_some, Option.bind_some]
  have no : ok2 (some ((-1 : Int32), I)) (some ((-1 : Int32), up2 μ 0 0 (nI 0))) (fun r t => r.1 = t.1 ∧ (∀ c, c ≠ z + 2424 → r.2 c = I c) ∧ ∀ k, k ≠ 0 → k ≠ 41 → t.2 k = μ k) := ok2_some ⟨rfl, fun _ _ => rfl, fun k k0 _ => up2_k k0⟩
  rcases isHouse2 hn eh A.t0.hm x1 with ⟨a, ha, rfl, q1, q2⟩ | ⟨q1, q2⟩
  · rw [q1, q2, Option.bind_some, Option.bind_some, if_neg bT, if_neg bT]
    by_cases hx : nI 0 ≤ x2 ∧ x2 ≤ nI 800
    · rw [decide_eq_true hx, if_neg bT, if_neg bT]
      obtain ⟨w, _, hw, rfl⟩ := in_nI (by decide) (by decide) hx
      refine ok2_b (costs2 A.t0 S.t0 hnt ha false) ?_
      rintro J ν ⟨⟨f, hf⟩, f1, f2⟩
      have hct : fb_ct (fun k => (f k).isSome) n ≤ n := fb_ct_le _ _
      refine ok2_for n (fun i s s' => s' = s ∧ s.2 = nI i) (by omega) ?_ ⟨rfl, rfl⟩
      rintro again again' i ⟨q, _⟩ _ hi ⟨rfl, rfl⟩ ih
      dsimp only
      rw [f1 (z + 2) (by omega), f2 6 (by decide), eh, A.t0.hm]
      refine ok2_ii Iff.rfl (fun _ _ => ok2_some ⟨rfl, f1, fun k k0 k1 => by dsimp only; rw [f2 k k1, up2_k k0]⟩) (fun c _ => ?_)
      have hlt := nle_iff (by omega) (by omega) c
      rw [jn_eq, nI_add]
      refine ok2_ii Iff.rfl (fun _ _ => ?_) (fun _ _ => ?_)
      · dsimp only; rw [add_z]; exact ih hlt _ _ ⟨rfl, rfl⟩
      rw [rd_eq (i := i) (by omega) (by decide), Option.bind_some, rd_eq (i := i) (by omega) (by decide), Option.bind_some]
      have hiff : nI w < J (z + 2424) i ↔ nI w < ν 41 i := by
        rcases hf i hlt with ⟨_, jb, nb⟩ | ⟨v, _, hv, jb, nb⟩
        · rw [jb, nb]
          exact ⟨fun _ => nI_lt (b := 100000000) (by omega) (by decide), fun _ => nI_lt (b := 1000000) (by omega) (by decide)⟩
        · rw [jb, nb]
      refine ok2_ii hiff (fun _ _ => ?_) (fun _ _ => ?_)
      · dsimp only; rw [add_z]; exact ih hlt _ _ ⟨rfl, rfl⟩
      · exact ih hlt _ _ ⟨rfl, rfl⟩
    · rw [decide_eq_false hx, if_pos bF, if_pos bF]
      exact no
  · rw [q1, q2, Option.bind_some, Option.bind_some, if_pos bF, if_pos bF]
    exact no
end HEAR
