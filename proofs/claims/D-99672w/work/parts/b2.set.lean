/-! ===== what is told: state, house, set ===== -/
theorem up2_at (μ : Mem) (k i : Nat) (x : Int32) : up2 μ k i x k = upd (μ k) i x := if_pos rfl
section OWN
variable {z : Nat} {kd : Kd} {P : Ptr} {I I' μ μ' : Mem}
theorem BOR.own {b : Nat} (K : KI z kd) (B : BOR z b kd P I μ) (br : BR I' b μ') (hr : ∀ i, i < 115 → rg i (μ' 1 i)) (h12 : ∀ l', l' ≤ 150 → μ' 1 2 = nI l' → ∃ l, l ≤ 150 ∧ l' ≤ l ∧ μ 1 2 = nI l) (n6 : ∃ n, n ≤ 12 ∧ μ' 6 0 = nI n) (hI : ∀ a, b < a → a < b + 245 → I' a = I a) (h22 : I' b 22 = I b 22) (hM : KEEP z kd kd P P I I') (hν : ∀ k i, rki k i → k ≠ 1 → k ≠ 6 → k ≠ 7 → k ≠ 8 → μ' k i = μ k i) : BOR z b kd P I' μ' := by
  refine ⟨br, hr, fun l hl e i k hi hk => ?_, by rw [hν 5 0 (show _ < 1 by omega) (by decide) (by decide) (by decide) (by decide)]; exact B.t5, n6, by rw [h22, hν 37 0 (show _ < 1 by omega) (by decide) (by decide) (by decide) (by decide)]; exact B.nl, ?_, ?_, ?_, ?_, ?_, ?_, ?_, ?_, ?_⟩
  · obtain ⟨l2, hl2, hll, el⟩ := h12 l hl e
    rw [hν 9 _ (show _ < 600 by omega) (by decide) (by decide) (by decide) (by decide), hI _ (by omega) (by omega)]
    exact B.bk l2 hl2 el i k (by omega) hk
  · obtain ⟨lw, cl, sk, cs, of, co, nt, p0, p1, p2, p3, L⟩ := B.lws
    refine ⟨lw, cl, sk, cs, of, co, nt, p0, p1, p2, p3, ?_⟩
    exact LWS.cong K L hM (fun k i h h1 h9 => hν k i h (by omega) (by omega) (by omega) (by omega))
  · exact B.pieces.cong (fun c h1 h2 => hI c (by omega) (by omega)) (hν _ _ Nat.zero_lt_one (by decide) (by decide) (by decide) (by decide)) (fun i hi => hν _ _ hi (by decide) (by decide) (by decide) (by decide))
  · exact B.doughs.cong (fun c h1 h2 => hI c (by omega) (by omega)) (hν _ _ Nat.zero_lt_one (by decide) (by decide) (by decide) (by decide)) (fun i hi => hν _ _ hi (by decide) (by decide) (by decide) (by decide))
  · exact B.marks.cong (fun c h1 h2 => hI c (by omega) (by omega)) (hν _ _ Nat.zero_lt_one (by decide) (by decide) (by decide) (by decide)) (fun i hi => hν _ _ hi (by decide) (by decide) (by decide) (by decide))
  · exact B.bites.cong (fun c h1 h2 => hI c (by omega) (by omega)) (hν _ _ Nat.zero_lt_one (by decide) (by decide) (by decide) (by decide)) (fun i hi => hν _ _ hi (by decide) (by decide) (by decide) (by decide)) (fun i hi => hν _ _ hi (by decide) (by decide) (by decide) (by decide))
  · exact B.crumbs.cong (fun c h1 h2 => hI c (by omega) (by omega)) (hν _ _ Nat.zero_lt_one (by decide) (by decide) (by decide) (by decide)) (fun i hi => hν _ _ hi (by decide) (by decide) (by decide) (by decide))
  · exact B.loaves.cong (fun c h1 h2 => hI c (by omega) (by omega)) (hν _ _ Nat.zero_lt_one (by decide) (by decide) (by decide) (by decide)) (fun i hi => hν _ _ hi (by decide) (by decide) (by decide) (by decide)) (fun i hi => hν _ _ hi (by decide) (by decide) (by decide) (by decide))
  · exact B.heirs.cong (fun c h1 h2 => hI c (by omega) (by omega)) (hν _ _ Nat.zero_lt_one (by decide) (by decide) (by decide) (by decide)) (fun i hi => hν _ _ hi (by decide) (by decide) (by decide) (by decide))
  · exact B.members.cong (fun c h1 h2 => hI c (by omega) (by omega)) (hν _ _ Nat.zero_lt_one (by decide) (by decide) (by decide) (by decide)) (fun i hi => hν _ _ hi (by decide) (by decide) (by decide) (by decide)) (fun i hi => hν _ _ hi (by decide) (by decide) (by decide) (by decide))
/-- what is told of the borough itself: nothing can be undone then -/
theorem RR.own (R : RR z kd P I μ) (h8 : I' z 8 = nI 0) (h3 : μ' 3 0 = nI 0) (br : BR I' (z + 2) μ') (hr : ∀ i, i < 115 → rg i (μ' 1 i)) (h12 : μ' 1 2 = μ 1 2) (n6 : ∃ n, n ≤ 12 ∧ μ' 6 0 = nI n) (fz : ∀ j, j ≠ 8 → I' z j = I z j) (fx : ∀ a, a ≠ z → ¬ (a = z + 2 ∨ (z + 247 ≤ a ∧ a < z + 271)) → I' a = I a) (h22 : I' (z + 2) 22 = I (z + 2) 22) (fm : ∀ k, k ≠ 1 → k ≠ 3 → k ≠ 6 → k ≠ 7 → k ≠ 8 → μ' k = μ k) : RR z kd P I' μ' := by
  have e74 : vw μ' = vw μ := vw_eq (fm 74 (by decide) (by decide) (by decide) (by decide) (by decide))
  have hM : KEEP z kd kd P P I I' := fun a _ ha => ⟨fx a (by unfold IMM at ha; omega) (by unfold IMM at ha; omega), rfl, rfl⟩
  have hr3 : ∀ {k i : Nat}, rki k i → k ≠ 3 := fun h e => by subst e; exact absurd h (Nat.not_lt_zero _)
  refine ⟨R.K, R.bor.own R.K br hr (fun l' hl' e => ⟨l', hl', Nat.le_refl _, by rw [← h12]; exact e⟩) n6 (fun a h1 h2 => fx a (by omega) (by omega)) h22 hM (fun k i hk h1 h6 h7 h8 => by rw [fm k h1 (hr3 hk) h6 h7 h8]), ?_, by rw [fx (z + 540) (by omega) (by omega)]; exact R.th, by rw [fx (z + 271) (by omega) (by omega)]; exact R.tk, ?_, ?_, ?_, fun t h1 h2 h3 => by rw [fx (z + 2462) (by omega) (by omega)]; exact R.memo t h1 h2 h3, by rw [fm 69 (by decide) (by decide) (by decide) (by decide) (by decide)]; exact R.w69, fun i hi => by rw [fm 16 (by decide) (by decide) (by decide) (by decide) (by decide)]; exact R.wrd i hi⟩
  · rcases R.img with ⟨a, b⟩ | ⟨a, b, c⟩
    · exact Or.inl ⟨by rw [fz 9 (by decide)]; exact a, by rw [fm 72 (by decide) (by decide) (by decide) (by decide) (by decide)]; exact b⟩
    · refine Or.inr ⟨by rw [fz 9 (by decide)]; exact a, by rw [fm 72 (by decide) (by decide) (by decide) (by decide) (by decide)]; exact b, ?_⟩
      exact c.cong R.K (fun a h1 h2 => fx a (by omega) (by omega)) (fun j _ => by rw [fx (z + 271) (by omega) (by omega)]) hM (fun j _ => rfl) (fun k i h => by rw [e74])
  · obtain ⟨m, hm, e1, e2, π, L, hπ, hi, hs, hL, hL2⟩ := R.und
    exact ⟨0, by decide, h8, h3, π, fun _ => L m, hπ, hi, fun j hj => by omega, by rw [h12]; exact hL, hL2⟩
  · obtain ⟨t, ht, a, b, c⟩ := R.tap
    refine ⟨t, ht, by rw [fz 1 (by decide)]; exact a, by rw [fm 11 (by decide) (by decide) (by decide) (by decide) (by decide)]; exact b, fun i hi => ?_⟩
    rw [fx (z + 1) (by omega) (by omega), fm 10 (by decide) (by decide) (by decide) (by decide) (by decide)]
    exact c i hi
  · rw [fz 2 (by decide), fz 3 (by decide), fm 31 (by decide) (by decide) (by decide) (by decide) (by decide), fm 32 (by decide) (by decide) (by decide) (by decide) (by decide)]
    exact R.flt
theorem c_state (R : RR z kd P I μ) (x : Int32) : ok2 (x0_state I z x) (m_state μ x) (fun r t => r.1 = t.1 ∧ RR z kd P r.2 t.2) := by
  have R' := R.t0 (nI 0)
  unfold x0_state m_state x0_forgets
  rw [nm_eq, nm_eq, nm_eq, Option.bind_some, rd_eq (i := 1) (by decide) (by decide), Option.bind_some, wr_eq (i := 1) (by decide) (by decide), Option.bind_some, nm_eq]
  exact ok2_some ⟨by rw [up2_k (by decide)]; exact R.bor.br.state, (R'.step (R'.bor.st.set (i := 1) (by decide) (by decide) rfl (rg_no x (by decide) (by decide) (by decide) (by decide)))).forget⟩
/-- almonds or teeth -/
theorem RR.told7 (R : RR z kd P I μ) {k h j : Nat} (hk : (k = 7 ∧ j = 1) ∨ (k = 8 ∧ j = 2)) (hh : h < 12) (x : Int32) : RR z kd P (up2 (up2 I (z + 247 + 2 * h) j x) z 8 (nI 0)) (up2 (up2 μ k h x) 3 0 (nI 0)) := by
  have hm : mi k h := by unfold mi; omega
  have hl : xl (z + 2) k h = (z + 247 + 2 * h, j) := by
    rcases hk with ⟨rfl, rfl⟩ | ⟨rfl, rfl⟩
    · show (z + 2 + 245 + 2 * h, 1) = _; rw [show z + 2 + 245 + 2 * h = z + 247 + 2 * h by omega]
    · show (z + 2 + 245 + 2 * h, 2) = _; rw [show z + 2 + 245 + 2 * h = z + 247 + 2 * h by omega]
  have hb : BR (up2 (up2 I (z + 247 + 2 * h) j x) z 8 (nI 0)) (z + 2) (up2 (up2 μ k h x) 3 0 (nI 0)) := (R.bor.br.set hm hl x).cong (fun a h1 h2 _ => up2_k (by omega)) (fun k' hk' => up2_k (by omega))
  refine R.own (up2_same _ _ _ _) (up2_same _ _ _ _) hb (fun i hi => by rw [up2_k (by omega), up2_k (by omega)]; exact R.bor.rgs i hi) (by rw [up2_k (by omega), up2_k (by omega)]) (by rw [up2_k (by omega), up2_k (by omega)]; exact R.bor.n6) (fun j' hj => by rw [up2_ne (Or.inr hj), up2_k (by omega)]) (fun a h1 h2 => by rw [up2_k h1, up2_k (by omega)]) (by rw [up2_k (by omega), up2_k (by omega)]) (fun k' h1 h3 h6 h7 h8 => by rw [up2_k h3, up2_k (by omega)])
theorem can_set {n : Nat} (hn : n ≤ 12) (e1 : I (z + 2) 14 = nI n) (e2 : μ 6 0 = nI n) (x1 x2 x3 : Int32) : (x0_canSet I z x1 x2 x3 = some false ∧ m_canSet μ x1 x2 x3 = some false) ∨ (x0_canSet I z x1 x2 x3 = some true ∧ m_canSet μ x1 x2 x3 = some true ∧ ((x1 = nI 8 ∧ ∃ v, v ≤ 9 ∧ x3 = nI v) ∨ ∃ w h v, w < 8 ∧ h < 12 ∧ v ≤ 99 ∧ x1 = nI w ∧ x2 = nI h ∧ x3 = nI v)) := by
  unfold x0_canSet m_canSet
  simp only [isIn_x, isIn_m, Option.bind_some]
  by_cases c8 : x1 = nI 8
  · rw [if_pos c8, if_pos c8]
    by_cases c : nI 0 ≤ x3 ∧ x3 ≤ nI 9
    · rw [decide_eq_true c]
      obtain ⟨v, _, hv, rfl⟩ := in_nI (by decide) (by decide) c
      exact Or.inr ⟨rfl, rfl, Or.inl ⟨c8, v, hv, rfl⟩⟩
    · rw [decide_eq_false c]
      exact Or.inl ⟨rfl, rfl⟩
  · rw [if_neg c8, if_neg c8]
    by_cases c7 : nI 0 ≤ x1 ∧ x1 ≤ nI 7
    · rw [decide_eq_true c7, if_neg bT, if_neg bT]
      obtain ⟨w, _, hw, rfl⟩ := in_nI (by decide) (by decide) c7
      rcases isHouse2 hn e1 e2 x2 with ⟨h, hh, rfl, q1, q2⟩ | ⟨q1, q2⟩
      · rw [q1, q2, Option.bind_some, Option.bind_some, if_neg bT, if_neg bT, jn_eq, jn_eq]
        have fin : ∀ m, m ≤ 99 → m < 2 ^ 31 → (((if bI (decide (nI 0 ≤ x3 ∧ x3 ≤ nI m)) = 0 then some false else some true) = some false ∧ (if bI (decide (nI 0 ≤ x3 ∧ x3 ≤ nI m)) = 0 then some false else some true) = some false) ∨ ((if bI (decide (nI 0 ≤ x3 ∧ x3 ≤ nI m)) = 0 then some false else some true) = some true ∧ (if bI (decide (nI 0 ≤ x3 ∧ x3 ≤ nI m)) = 0 then some false else some true) = some true ∧ ((nI w = nI 8 ∧ ∃ v, v ≤ 9 ∧ x3 = nI v) ∨ ∃ w' h' v, w' < 8 ∧ h' < 12 ∧ v ≤ 99 ∧ nI w = nI w' ∧ nI h = nI h' ∧ x3 = nI v))) := by
          intro m hm hm2
          by_cases c : nI 0 ≤ x3 ∧ x3 ≤ nI m
          · rw [decide_eq_true c, if_neg bT]
            obtain ⟨v, _, hv, rfl⟩ := in_nI (by decide) hm2 c
            exact Or.inr ⟨rfl, rfl, Or.inr ⟨w, h, v, by omega, by omega, by omega, rfl, rfl, rfl⟩⟩
          · rw [decide_eq_false c, if_pos bF]
            exact Or.inl ⟨rfl, rfl⟩
        have : w = 0 ∨ w = 1 ∨ w = 2 ∨ w = 3 ∨ w = 4 ∨ w = 5 ∨ w = 6 ∨ w = 7 := by omega
        rcases this with rfl | rfl | rfl | rfl | rfl | rfl | rfl | rfl
        · rw [if_pos (by decide), if_pos (by decide)]; exact fin 99 (by decide) (by decide)
        · rw [if_pos (by decide), if_pos (by decide)]; exact fin 99 (by decide) (by decide)
        · rw [if_pos (by decide), if_pos (by decide)]; exact fin 99 (by decide) (by decide)
        · rw [if_pos (by decide), if_pos (by decide)]; exact fin 99 (by decide) (by decide)
        · rw [if_neg (by decide), if_neg (by decide), if_neg (by decide)]; exact fin 9 (by decide) (by decide)
        · rw [if_neg (by decide), if_neg (by decide), if_neg (by decide)]; exact fin 9 (by decide) (by decide)
        · rw [if_neg (by decide), if_neg (by decide), if_neg (by decide)]; exact fin 9 (by decide) (by decide)
        · rw [if_neg (by decide), if_pos rfl, if_pos (by decide)]; exact fin 99 (by decide) (by decide)
      · rw [q1, q2, Option.bind_some, Option.bind_some, if_pos bF, if_pos bF]
        exact Or.inl ⟨rfl, rfl⟩
    · rw [decide_eq_false c7, if_pos bF, if_pos bF]
      refine Or.inl ⟨?_, rfl⟩
      rcases isHouse2 hn e1 e2 x2 with ⟨h, hh, rfl, q1, q2⟩ | ⟨q1, q2⟩
      · rw [q1, Option.bind_some, if_neg bT]
      · rw [q1, Option.bind_some, if_pos bF]
theorem c_set (R : RR z kd P I μ) (x1 x2 x3 : Int32) : ok2 (x0_set I z x1 x2 x3) (m_set μ x1 x2 x3) (fun r t => r.1 = t.1 ∧ RR z kd P r.2 t.2) := by
  have R' := R.t0 (nI 0)
  obtain ⟨n, hn, en⟩ := R'.bor.n6
  have eh : I (z + 2) 14 = nI n := by rw [R'.bor.br.houses, en]
  have S := R'.bor.st
  unfold x0_set m_set x0_forgets
  rw [nm_eq]
  generalize hν : up2 μ 0 0 (nI 0) = ν at *
  rcases can_set hn eh en x1 x2 x3 with ⟨q1, q2⟩ | ⟨q1, q2, q3⟩
  · rw [q1, q2, Option.bind_some, Option.bind_some, if_pos bF, if_pos bF]
    exact ok2_some ⟨rfl, R'⟩
  · rw [q1, q2, Option.bind_some, Option.bind_some, if_neg bT, if_neg bT]
    simp only [jn_eq, nm_eq, Option.bind_some]
    rcases q3 with ⟨rfl, v, hv, rfl⟩ | ⟨w, h, v, hw, hh, hv, rfl, rfl, rfl⟩
    · simp only [if_neg (show ¬ nI 8 = nI 4 by decide), if_neg (show ¬ nI 8 = nI 5 by decide), if_neg (show ¬ nI 8 = nI 6 by decide), if_neg (show ¬ nI 8 = nI 7 by decide), if_pos (show nI 4 ≤ nI 8 by decide), if_true]
      rw [wr_eq (i := 3) (by decide) (by decide), Option.bind_some]
      exact ok2_some ⟨rfl, (R'.step (S.set (i := 3) (by decide) (by decide) rfl (rg_no _ (by decide) (by decide) (by decide) (by decide)))).forget⟩
    · have ea : x0_at I z (nI h) = some (z + 247 + 2 * h) := by
        unfold x0_at
        rw [ix_eq (i := h) hh (by decide), Option.bind_some]
      have eb : z + 247 + 2 * h = z + 2 + 245 + 2 * h := by omega
      have eb1 : z + 247 + 2 * h + 1 = z + 2 + 246 + 2 * h := by omega
      have wall : w < 4 → m_hasWall ν (nI h) (nI w) (nI v) = some (up2 ν 1 (7 + 4 * h + w) (nI v)) := fun hw4 => hw_eq hh hw4 (held_in _ (nI_le (Nat.zero_le _) (by omega)) (nI_le hv (by decide)))
      simp only [ea, Option.bind_some]
      have : w = 0 ∨ w = 1 ∨ w = 2 ∨ w = 3 ∨ w = 4 ∨ w = 5 ∨ w = 6 ∨ w = 7 := by omega
      have fin4 : w < 4 → ok2 ((wr I (z + 247 + 2 * h + 1) 4 (nI w) (nI v)).bind fun I28 => some (true, up2 I28 z 8 (nI 0))) (some (true, up2 (up2 ν 1 (7 + 4 * h + w) (nI v)) 3 0 (nI 0))) (fun r t => r.1 = t.1 ∧ RR z kd P r.2 t.2) := fun hw4 => by
        rw [wr_eq (i := w) (by omega) (by decide), Option.bind_some, eb1]
        exact ok2_some ⟨rfl, (R'.step (S.wset hh hw4 hv)).forget⟩
      rcases this with rfl | rfl | rfl | rfl | rfl | rfl | rfl | rfl
      · simp only [if_neg (show ¬ nI 0 = nI 4 by decide), if_neg (show ¬ nI 0 = nI 5 by decide), if_neg (show ¬ nI 0 = nI 6 by decide), if_neg (show ¬ nI 0 = nI 7 by decide), if_neg (show ¬ nI 0 = nI 8 by decide), if_neg (show ¬ nI 4 ≤ nI 0 by decide), wall (show 0 < 4 by decide), Option.bind_some]
        exact fin4 (by decide)
      · simp only [if_neg (show ¬ nI 1 = nI 4 by decide), if_neg (show ¬ nI 1 = nI 5 by decide), if_neg (show ¬ nI 1 = nI 6 by decide), if_neg (show ¬ nI 1 = nI 7 by decide), if_neg (show ¬ nI 1 = nI 8 by decide), if_neg (show ¬ nI 4 ≤ nI 1 by decide), wall (show 1 < 4 by decide), Option.bind_some]
        exact fin4 (by decide)
      · simp only [if_neg (show ¬ nI 2 = nI 4 by decide), if_neg (show ¬ nI 2 = nI 5 by decide), if_neg (show ¬ nI 2 = nI 6 by decide), if_neg (show ¬ nI 2 = nI 7 by decide), if_neg (show ¬ nI 2 = nI 8 by decide), if_neg (show ¬ nI 4 ≤ nI 2 by decide), wall (show 2 < 4 by decide), Option.bind_some]
        exact fin4 (by decide)
      · simp only [if_neg (show ¬ nI 3 = nI 4 by decide), if_neg (show ¬ nI 3 = nI 5 by decide), if_neg (show ¬ nI 3 = nI 6 by decide), if_neg (show ¬ nI 3 = nI 7 by decide), if_neg (show ¬ nI 3 = nI 8 by decide), if_neg (show ¬ nI 4 ≤ nI 3 by decide), wall (show 3 < 4 by decide), Option.bind_some]
        exact fin4 (by decide)
      · simp only [if_neg (show ¬ nI 4 = nI 5 by decide), if_neg (show ¬ nI 4 = nI 6 by decide), if_neg (show ¬ nI 4 = nI 7 by decide), if_neg (show ¬ nI 4 = nI 8 by decide), if_pos (show nI 4 ≤ nI 4 by decide), if_true, Option.bind_some]
        rw [wr_eq (i := h) hh (by decide), Option.bind_some]
        exact ok2_some ⟨rfl, R'.told7 (Or.inl ⟨rfl, rfl⟩) hh _⟩
      · simp only [if_neg (show ¬ nI 5 = nI 4 by decide), if_neg (show ¬ nI 5 = nI 6 by decide), if_neg (show ¬ nI 5 = nI 7 by decide), if_neg (show ¬ nI 5 = nI 8 by decide), if_pos (show nI 4 ≤ nI 5 by decide), if_true, Option.bind_some]
        rw [wr_eq (i := h) hh (by decide), Option.bind_some]
        exact ok2_some ⟨rfl, R'.told7 (Or.inr ⟨rfl, rfl⟩) hh _⟩
      · simp only [if_neg (show ¬ nI 6 = nI 4 by decide), if_neg (show ¬ nI 6 = nI 5 by decide), if_neg (show ¬ nI 6 = nI 7 by decide), if_neg (show ¬ nI 6 = nI 8 by decide), if_pos (show nI 4 ≤ nI 6 by decide), if_true, Option.bind_some]
        rw [nI_add, wr_eq (i := 55 + h) (by omega) (by decide), Option.bind_some, eb]
        exact ok2_some ⟨rfl, (R'.step (S.set (by omega) (by omega) (xl_hard hh) (rg_no _ (by omega) (by omega) (by omega) (by omega)))).forget⟩
      · simp only [if_neg (show ¬ nI 7 = nI 4 by decide), if_neg (show ¬ nI 7 = nI 5 by decide), if_neg (show ¬ nI 7 = nI 6 by decide), if_neg (show ¬ nI 7 = nI 8 by decide), if_pos (show nI 4 ≤ nI 7 by decide), if_true, Option.bind_some]
        rw [nI_add, wr_eq (i := 79 + h) (by omega) (by decide), Option.bind_some, eb]
        exact ok2_some ⟨rfl, (R'.step (S.set (by omega) (by omega) (xl_lodgers hh) (rg_no _ (by omega) (by omega) (by omega) (by omega)))).forget⟩
end OWN
