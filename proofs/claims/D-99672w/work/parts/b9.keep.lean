/-! ===== the image: the model's numbers one behind another ===== -/
def iv (j : Nat) : Nat × Nat := if j < 115 then (1, j) else if j < 127 then ([6, 33, 35, 37, 42, 45, 49, 51, 54, 57, 62, 66].getD (j - 115) 0, 0) else if j < 175 then ([7, 8, 38, 63].getD ((j - 127) % 4) 0, (j - 127) / 4) else if j < 184 then (43, j - 175) else if j < 224 then ([46, 52, 53, 67, 68].getD ((j - 184) % 5) 0, (j - 184) / 5) else if j < 229 then (50, j - 224) else if j < 245 then (55, j - 229) else if j < 257 then ([58, 59].getD ((j - 245) % 2) 0, (j - 245) / 2) else if j < 305 then (34, j - 257) else if j < 385 then (36, j - 305) else if j < 985 then (9, j - 385) else if j < 986 then (17, 0) else if j < 1050 then ([18, 19, 20, 21].getD ((j - 986) % 4) 0, (j - 986) / 4) else ([22, 23].getD ((j - 1050) % 2) 0, (j - 1050) / 2)
def ivP (k : Nat) : Bool := k == 5 || (List.range (rl k)).all (fun i => iv (ibs k + ist k * i) == (k, i) && Nat.blt (ibs k + ist k * i) 1850)
theorem iv_all : (List.range 75).all ivP = true := by decide +kernel
theorem rl_75 {k i : Nat} (h : rki k i) : k < 75 := by
  rcases Nat.lt_or_ge k 75 with q | q
  · exact q
  · unfold rki rl at h
    rw [List.getD_eq_default _ _ (by show 75 ≤ k; exact q)] at h
    exact absurd h (Nat.not_lt_zero _)
theorem iv_eq {k i : Nat} (h : rki k i) (h5 : k ≠ 5) : iv (ibs k + ist k * i) = (k, i) ∧ ibs k + ist k * i < 1850 := by
  have h1 := allL iv_all (rl_75 h)
  unfold ivP at h1
  rw [Bool.or_eq_true] at h1
  rcases h1 with h1 | h1
  · exact absurd (beq_iff_eq.mp h1) h5
  · have h2 := allL h1 h
    rw [Bool.and_eq_true] at h2
    exact ⟨beq_iff_eq.mp h2.1, by have := h2.2; unfold Nat.blt at this; exact Nat.le_of_ble_eq_true this⟩
theorem ip_inj {k i k' i' : Nat} (h : rki k i) (h5 : k ≠ 5) (h' : rki k' i') (h5' : k' ≠ 5) (e : ibs k + ist k * i = ibs k' + ist k' * i') : k = k' ∧ i = i' := by
  have a := (iv_eq h h5).1
  rw [e, (iv_eq h' h5').1, Prod.mk.injEq] at a
  exact ⟨a.1.symm, a.2.symm⟩
/-- n numbers were kept, or put back -/
def KS (t : Bool) (μ0 : Mem) (n : Nat) (μ : Mem) : Prop := μ 71 0 = bI t ∧ μ 73 0 = nI n ∧ (t = true → (∀ k, k ≠ 73 → k ≠ 74 → μ k = μ0 k) ∧ ∀ k i, rki k i → k ≠ 5 → ibs k + ist k * i < n → μ 74 (ibs k + ist k * i) = μ0 k i) ∧ (t = false → μ 74 = μ0 74 ∧ (∀ k i, rki k i → k ≠ 5 → ibs k + ist k * i < n → μ k i = μ0 74 (ibs k + ist k * i)) ∧ ∀ k i, ¬ (rki k i ∧ k ≠ 5) → k ≠ 73 → μ k i = μ0 k i)
section KEEPS
variable {t : Bool} {μ0 μ : Mem} {n : Nat}
theorem keep1 (H : KS t μ0 n μ) {k i : Nat} (hr : rki k i) (h5 : k ≠ 5) (hp : ibs k + ist k * i = n) : ∃ v ν, m_keeps μ (μ k i) = some (v, ν) ∧ KS t μ0 (n + 1) (up2 ν k i v) := by
  obtain ⟨h71, h73, hT, hF⟩ := H
  have hn : n < 1850 := by rw [← hp]; exact (iv_eq hr h5).2
  have hk : k ≠ 71 ∧ k ≠ 73 ∧ k ≠ 74 := by
    refine ⟨?_, ?_, ?_⟩ <;> (rintro rfl; exact absurd hr (Nat.not_lt_zero _))
  unfold m_keeps
  rw [nm_eq, h73, nI_add, up2_same, nI_sub (by omega), Nat.add_sub_cancel, up2_k (show (71 : Nat) ≠ 73 by decide), h71, rd_eq (i := n) (by omega) (by decide), wr_eq (i := n) (by omega) (by decide), Option.bind_some, Option.bind_some]
  cases t with
  | false =>
    obtain ⟨f1, f2, f3⟩ := hF rfl
    rw [if_pos bF]
    refine ⟨_, _, rfl, by rw [up2_k (fun e => hk.1 e.symm), up2_k (by decide)]; exact h71, by rw [up2_k (fun e => hk.2.1 e.symm), up2_same], fun q => absurd q (by decide), fun _ => ⟨by rw [up2_k (fun e => hk.2.2 e.symm), up2_k (by decide)]; exact f1, fun k' i' hr' h5' hlt => ?_, fun k' i' hn' h73' => ?_⟩⟩
    · by_cases e : ibs k' + ist k' * i' = n
      · obtain ⟨rfl, rfl⟩ := ip_inj hr' h5' hr h5 (by rw [e, hp])
        rw [up2_same, up2_k (by decide), f1, e]
      · rw [up2_ne (by
          by_cases e2 : k' = k
          · refine Or.inr (fun e3 => e ?_)
            rw [e2, e3]; exact hp
          · exact Or.inl e2), up2_k (fun e2 => by subst e2; exact absurd hr' (Nat.not_lt_zero _))]
        exact f2 k' i' hr' h5' (by omega)
    · rw [up2_ne (by
        by_cases e2 : k' = k
        · refine Or.inr (fun e3 => hn' ?_)
          rw [e2, e3]; exact ⟨hr, h5⟩
        · exact Or.inl e2), up2_k h73']
      exact f3 k' i' hn' h73'
  | true =>
    obtain ⟨t1, t2⟩ := hT rfl
    rw [if_neg bT]
    have ei : up2 (up2 (up2 μ 73 0 (nI (n + 1))) 74 n (μ k i)) k i (μ k i) = up2 (up2 μ 73 0 (nI (n + 1))) 74 n (μ k i) := up2_id (by rw [up2_k hk.2.2, up2_k hk.2.1])
    refine ⟨_, _, rfl, ?_⟩
    rw [ei]
    refine ⟨by rw [up2_k (by decide), up2_k (by decide)]; exact h71, by rw [up2_k (by decide), up2_same], fun _ => ⟨fun k' a b => by rw [up2_k b, up2_k a]; exact t1 k' a b, fun k' i' hr' h5' hlt => ?_⟩, fun q => absurd q (by decide)⟩
    by_cases e : ibs k' + ist k' * i' = n
    · obtain ⟨rfl, rfl⟩ := ip_inj hr' h5' hr h5 (by rw [e, hp])
      rw [e, up2_same, t1 _ hk.2.1 hk.2.2]
    · rw [up2_ne (Or.inr e), up2_k (by decide)]
      exact t2 k' i' hr' h5' (by omega)
/-- one number of an array -/
theorem kstep (H : KS t μ0 n μ) {k i cap : Nat} (hr : rki k i) (h5 : k ≠ 5) (hp : ibs k + ist k * i = n) (hc : i < cap) (hc2 : cap < 2 ^ 31) : ∃ ν, KS t μ0 (n + 1) ν ∧ ∀ {R : Type} (kk : Mem → Option R), ((rd μ k cap (nI i)).bind fun v => (m_keeps μ v).bind fun r => (wr r.2 k cap (nI i) r.1).bind kk) = kk ν := by
  obtain ⟨v, ν, e, K⟩ := keep1 H hr h5 hp
  refine ⟨_, K, fun kk => ?_⟩
  rw [rd_eq hc hc2, Option.bind_some, e, Option.bind_some, wr_eq hc hc2, Option.bind_some]
/-- one number that is a field -/
theorem kfld (H : KS t μ0 n μ) {k : Nat} (hr : rki k 0) (h5 : k ≠ 5) (hp : ibs k + ist k * 0 = n) : ∃ ν, KS t μ0 (n + 1) ν ∧ ∀ {R : Type} (kk : Mem → Option R), ((m_keeps μ (μ k 0)).bind fun r => nm (up2 r.2 k 0 r.1) kk) = kk ν := by
  obtain ⟨v, ν, e, K⟩ := keep1 H hr h5 hp
  refine ⟨_, K, fun kk => ?_⟩
  rw [e, Option.bind_some, nm_eq]
/-- an array of its own -/
theorem kloop (H : KS t μ0 n μ) {k len cap : Nat} (hl : rl k = len) (h5 : k ≠ 5) (hb : ibs k = n) (hs : ist k = 1) (hc : len ≤ cap) (hc2 : cap < 10000) : ∃ ν, KS t μ0 (n + len) ν ∧ ∀ {R : Type} (kk : Mem → Option R), lp (fun (again : Int32 × Mem → Option R) (j : Int32 × Mem) => if (nI len) ≤ j.1 then kk j.2 else (rd j.2 k cap j.1).bind fun v => (m_keeps j.2 v).bind fun r => (wr r.2 k cap j.1 r.1).bind fun μ' => again ((j.1 + (nI 1)), μ')) fuel ((nI 0), μ) = kk ν := by
  have key : ∀ d i, i + d = len → ∀ μ, KS t μ0 (n + i) μ → ∃ ν, KS t μ0 (n + len) ν ∧ ∀ {R : Type} (kk : Mem → Option R) (f : Nat), lp (fun (again : Int32 × Mem → Option R) (j : Int32 × Mem) => if (nI len) ≤ j.1 then kk j.2 else (rd j.2 k cap j.1).bind fun v => (m_keeps j.2 v).bind fun r => (wr r.2 k cap j.1 r.1).bind fun μ' => again ((j.1 + (nI 1)), μ')) (f + d + 1) (nI i, μ) = kk ν := by
    intro d
    induction d with
    | zero =>
      intro i hi μ K
      refine ⟨μ, by rw [show len = i by omega]; exact K, fun kk f => ?_⟩
      rw [lp_s]
      dsimp only
      rw [if_pos (nI_le (by omega) (by omega))]
    | succ d ih =>
      intro i hi μ K
      obtain ⟨ν, K', e⟩ := kstep K (k := k) (i := i) (cap := cap) (by unfold rki; omega) h5 (by rw [hb, hs]; omega) (by omega) (by omega)
      obtain ⟨ρ, K2, e2⟩ := ih (i + 1) (by omega) ν K'
      refine ⟨ρ, K2, fun kk f => ?_⟩
      rw [show f + (d + 1) + 1 = (f + d + 1) + 1 from rfl, lp_s]
      dsimp only
      rw [if_neg (nI_ge (by omega) (by omega)), e, nI_add]
      exact e2 kk f
  obtain ⟨ν, K, e⟩ := key len 0 (by omega) μ H
  refine ⟨ν, K, fun kk => ?_⟩
  have := e kk (19999 - len)
  rw [show 19999 - len + len + 1 = fuel by show _ = 20000; omega] at this
  exact this
theorem keepsMany_m (H : KS t μ0 115 μ) : ok (m_keepsMany μ) (KS t μ0 127) := by
  unfold m_keepsMany
  obtain ⟨ν, H, e⟩ := kfld H (k := 6) Nat.zero_lt_one (by decide) rfl
  rw [e]
  obtain ⟨ν, H, e⟩ := kfld H (k := 33) Nat.zero_lt_one (by decide) rfl
  rw [e]
  obtain ⟨ν, H, e⟩ := kfld H (k := 35) Nat.zero_lt_one (by decide) rfl
  rw [e]
  obtain ⟨ν, H, e⟩ := kfld H (k := 37) Nat.zero_lt_one (by decide) rfl
  rw [e]
  obtain ⟨ν, H, e⟩ := kfld H (k := 42) Nat.zero_lt_one (by decide) rfl
  rw [e]
  obtain ⟨ν, H, e⟩ := kfld H (k := 45) Nat.zero_lt_one (by decide) rfl
  rw [e]
  obtain ⟨ν, H, e⟩ := kfld H (k := 49) Nat.zero_lt_one (by decide) rfl
  rw [e]
  obtain ⟨ν, H, e⟩ := kfld H (k := 51) Nat.zero_lt_one (by decide) rfl
  rw [e]
  obtain ⟨ν, H, e⟩ := kfld H (k := 54) Nat.zero_lt_one (by decide) rfl
  rw [e]
  obtain ⟨ν, H, e⟩ := kfld H (k := 57) Nat.zero_lt_one (by decide) rfl
  rw [e]
  obtain ⟨ν, H, e⟩ := kfld H (k := 62) Nat.zero_lt_one (by decide) rfl
  rw [e]
  obtain ⟨ν, H, e⟩ := kfld H (k := 66) Nat.zero_lt_one (by decide) rfl
  rw [e]
  exact ok_some H
theorem keepsTold_m (H : KS t μ0 127 μ) : ok (m_keepsTold μ) (KS t μ0 385) := by
  unfold m_keepsTold
  simp only [jn_eq]
  refine ok_for 12 (fun i s => s.1 = nI i ∧ KS t μ0 (127 + 4 * i) s.2) (by decide) ?_ ⟨rfl, H⟩
  rintro again i ⟨_, ν⟩ hi ⟨e, H⟩ ih
  dsimp only at e H ⊢
  subst e
  refine ok_ite (fun c => ?_) (fun c => ?_)
  · have := le_iff (by decide) (by omega) c
    rw [show i = 12 by omega] at H
    obtain ⟨ν, H, e⟩ := kloop H (k := 43) (len := 9) (cap := 9) rfl (by decide) rfl rfl (by decide) (by decide)
    rw [e]
    refine ok_for 8 (fun i s => s.1 = nI i ∧ KS t μ0 (184 + 5 * i) s.2) (by decide) ?_ ⟨rfl, H⟩
    rintro ag i ⟨_, ν⟩ hi ⟨e, H⟩ ih2
    dsimp only at e H ⊢
    subst e
    refine ok_ite (fun c => ?_) (fun c => ?_)
    · have := le_iff (by decide) (by omega) c
      rw [show i = 8 by omega] at H
      obtain ⟨ν, H, e⟩ := kloop H (k := 50) (len := 5) (cap := 5) rfl (by decide) rfl rfl (by decide) (by decide)
      rw [e]
      obtain ⟨ν, H, e⟩ := kloop H (k := 55) (len := 16) (cap := 16) rfl (by decide) rfl rfl (by decide) (by decide)
      rw [e]
      refine ok_for 6 (fun i s => s.1 = nI i ∧ KS t μ0 (245 + 2 * i) s.2) (by decide) ?_ ⟨rfl, H⟩
      rintro ag i ⟨_, ν⟩ hi ⟨e, H⟩ ih3
      dsimp only at e H ⊢
      subst e
      refine ok_ite (fun c => ?_) (fun c => ?_)
      · have := le_iff (by decide) (by omega) c
        rw [show i = 6 by omega] at H
        obtain ⟨ν, H, e⟩ := kloop H (k := 34) (len := 48) (cap := 96) rfl (by decide) rfl rfl (by decide) (by decide)
        rw [e]
        obtain ⟨ν, H, e⟩ := kloop H (k := 36) (len := 80) (cap := 160) rfl (by decide) rfl rfl (by decide) (by decide)
        rw [e]
        exact ok_some H
      · have hlt := nle_iff (by decide) (by omega) c
        obtain ⟨ν, H, e⟩ := kstep H (k := 58) (i := i) (cap := 6) hlt (by decide) rfl hlt (by decide)
        rw [e]
        obtain ⟨ν, H, e⟩ := kstep H (k := 59) (i := i) (cap := 6) hlt (by decide) (by show 246 + 2 * i = _; omega) hlt (by decide)
        rw [e, nI_add]
        exact ih3 hlt _ ⟨rfl, by rw [show 245 + 2 * (i + 1) = 245 + 2 * i + 1 + 1 by omega]; exact H⟩
    · have hlt := nle_iff (by decide) (by omega) c
      obtain ⟨ν, H, e⟩ := kstep H (k := 46) (i := i) (cap := 8) hlt (by decide) rfl hlt (by decide)
      rw [e]
      obtain ⟨ν, H, e⟩ := kstep H (k := 52) (i := i) (cap := 8) hlt (by decide) (by show 185 + 5 * i = _; omega) hlt (by decide)
      rw [e]
      obtain ⟨ν, H, e⟩ := kstep H (k := 53) (i := i) (cap := 8) hlt (by decide) (by show 186 + 5 * i = _; omega) hlt (by decide)
      rw [e]
      obtain ⟨ν, H, e⟩ := kstep H (k := 67) (i := i) (cap := 8) hlt (by decide) (by show 187 + 5 * i = _; omega) hlt (by decide)
      rw [e]
      obtain ⟨ν, H, e⟩ := kstep H (k := 68) (i := i) (cap := 8) hlt (by decide) (by show 188 + 5 * i = _; omega) hlt (by decide)
      rw [e, nI_add]
      exact ih2 hlt _ ⟨rfl, by rw [show 184 + 5 * (i + 1) = 184 + 5 * i + 1 + 1 + 1 + 1 + 1 by omega]; exact H⟩
  · have hlt := nle_iff (by decide) (by omega) c
    obtain ⟨ν, H, e⟩ := kstep H (k := 7) (i := i) (cap := 12) hlt (by decide) rfl hlt (by decide)
    rw [e]
    obtain ⟨ν, H, e⟩ := kstep H (k := 8) (i := i) (cap := 12) hlt (by decide) (by show 128 + 4 * i = _; omega) hlt (by decide)
    rw [e]
    obtain ⟨ν, H, e⟩ := kstep H (k := 38) (i := i) (cap := 24) hlt (by decide) (by show 129 + 4 * i = _; omega) (by omega) (by decide)
    rw [e]
    obtain ⟨ν, H, e⟩ := kstep H (k := 63) (i := i) (cap := 12) hlt (by decide) (by show 130 + 4 * i = _; omega) hlt (by decide)
    rw [e, nI_add]
    exact ih hlt _ ⟨rfl, by rw [show 127 + 4 * (i + 1) = 127 + 4 * i + 1 + 1 + 1 + 1 by omega]; exact H⟩
theorem keepsLaw_m (H : KS t μ0 985 μ) : ok (m_keepsLaw μ) (KS t μ0 1850) := by
  unfold m_keepsLaw
  simp only [jn_eq]
  obtain ⟨ν, H, e⟩ := kstep H (k := 17) (i := 0) (cap := 2) Nat.zero_lt_one (by decide) rfl (by decide) (by decide)
  rw [e]
  refine ok_for 16 (fun i s => s.1 = nI i ∧ KS t μ0 (986 + 4 * i) s.2) (by decide) ?_ ⟨rfl, H⟩
  rintro again i ⟨_, ν⟩ hi ⟨e, H⟩ ih
  dsimp only at e H ⊢
  subst e
  refine ok_ite (fun c => ?_) (fun c => ?_)
  · have := le_iff (by decide) (by omega) c
    rw [show i = 16 by omega] at H
    refine ok_for 400 (fun i s => s.1 = nI i ∧ KS t μ0 (1050 + 2 * i) s.2) (by decide) ?_ ⟨rfl, H⟩
    rintro ag i ⟨_, ν⟩ hi ⟨e, H⟩ ih2
    dsimp only at e H ⊢
    subst e
    refine ok_ite (fun c => ok_some ?_) (fun c => ?_)
    · have := le_iff (by decide) (by omega) c
      rw [show i = 400 by omega] at H
      exact H
    · have hlt := nle_iff (by decide) (by omega) c
      obtain ⟨ν, H, e⟩ := kstep H (k := 22) (i := i) (cap := 1200) hlt (by decide) rfl (by omega) (by decide)
      rw [e]
      obtain ⟨ν, H, e⟩ := kstep H (k := 23) (i := i) (cap := 1200) hlt (by decide) (by show 1051 + 2 * i = _; omega) (by omega) (by decide)
      rw [e, nI_add]
      exact ih2 hlt _ ⟨rfl, by rw [show 1050 + 2 * (i + 1) = 1050 + 2 * i + 1 + 1 by omega]; exact H⟩
  · have hlt := nle_iff (by decide) (by omega) c
    obtain ⟨ν, H, e⟩ := kstep H (k := 18) (i := i) (cap := 48) hlt (by decide) rfl (by omega) (by decide)
    rw [e]
    obtain ⟨ν, H, e⟩ := kstep H (k := 19) (i := i) (cap := 48) hlt (by decide) (by show 987 + 4 * i = _; omega) (by omega) (by decide)
    rw [e]
    obtain ⟨ν, H, e⟩ := kstep H (k := 20) (i := i) (cap := 48) hlt (by decide) (by show 988 + 4 * i = _; omega) (by omega) (by decide)
    rw [e]
    obtain ⟨ν, H, e⟩ := kstep H (k := 21) (i := i) (cap := 48) hlt (by decide) (by show 989 + 4 * i = _; omega) (by omega) (by decide)
    rw [e, nI_add]
    exact ih hlt _ ⟨rfl, by rw [show 986 + 4 * (i + 1) = 986 + 4 * i + 1 + 1 + 1 + 1 by omega]; exact H⟩
end KEEPS
