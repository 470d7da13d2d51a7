/-! ===== the marks ===== -/
theorem abs_ap (μ : Mem) {a c : Nat} (ha : a < 2 ^ 30) (hc : c < 2 ^ 30) : m_apart μ (nI a) (nI c) = some (iabs (nI a - nI c)) := by
  unfold m_apart iabs
  by_cases h : a ≤ c
  · rw [if_pos (nI_le h (by omega))]
    by_cases e : a = c
    · subst e
      rw [Int32.sub_self, if_pos (by decide)]
    · rw [if_neg (fun q => (fa_of_lt (nI_subn (a := a) (c := c) (by omega) hc)).2.1 q)]
      rw [Int32.zero_sub, Int32.neg_sub]
  · rw [if_neg (nI_ge (by omega) (by omega)), nI_sub (by omega), if_pos (nI_pos' (by omega))]
theorem isM2 {I ν : Mem} {z : Nat} (R : R1 I ν (z + 176) 5 49 50 1 60) (x : Int32) : ∃ r, x0_isMeasured I z x = some r ∧ m_isMeasured ν x = some r := by
  obtain ⟨c, hc, e1, e2, h⟩ := R
  have : ok2 (x0_isMeasured I z x) (m_isMeasured ν x) (fun r t => r = t) := by
    unfold x0_isMeasured m_isMeasured
    refine ok2_lp (fun s s' => ∃ i, i ≤ c ∧ s = nI i ∧ s' = nI i) (fun s => c - s.toNatClampNeg) ?_ fuel fuel _ _ ⟨0, Nat.zero_le _, rfl, rfl⟩ (clamp_0 (c := c) (by omega)) (clamp_0 (c := c) (by omega))
    rintro again again' _ _ ⟨i, hi, rfl, rfl⟩ ih
    rw [e1, e2]
    refine ok2_ii Iff.rfl (fun _ _ => ok2_some rfl) (fun cc _ => ?_)
    have hlt := lt_of_nle (by omega) hi cc
    have fx : ∀ j, j < c → x2_first I (z + 176) 5 (nI j) = some (ν 50 j) := fun j hj => by
      unfold x2_first
      rw [ix_eq (by omega) (by decide), Option.bind_some, rd_eq (i := 0) (by decide) (by decide), Option.bind_some, (h j hj).1]
    obtain ⟨v, _, hv, ev⟩ := (h i hlt).2
    rw [fx i hlt, Option.bind_some, rd_eq (i := i) (by omega) (by decide), Option.bind_some]
    refine ok2_ii Iff.rfl (fun _ _ => ok2_some rfl) (fun _ _ => ?_)
    refine ok2_lp (fun s s' => ∃ j, j ≤ i ∧ s = nI j ∧ s' = nI j) (fun s => i - s.toNatClampNeg) ?_ fuel fuel _ _ ⟨0, Nat.zero_le _, rfl, rfl⟩ (clamp_0 (c := i) (by omega)) (clamp_0 (c := i) (by omega))
    rintro ag ag' _ _ ⟨j, hj, rfl, rfl⟩ ih2
    refine ok2_ii Iff.rfl (fun _ _ => ?_) (fun cj _ => ?_)
    · rw [nI_add]
      exact ih _ _ ⟨i + 1, hlt, rfl, rfl⟩ (clamp_s (by omega) hlt)
    · have hjl := lt_of_nle (by omega) hj cj
      obtain ⟨w, _, hw, ew⟩ := (h j (by omega)).2
      rw [Option.bind_some, fx j (by omega), Option.bind_some, Option.bind_some, rd_eq (i := j) (by omega) (by decide), Option.bind_some, ev, ew, abs_ap _ (by omega) (by omega), Option.bind_some, nI_add]
      exact ok2_ii Iff.rfl (fun _ _ => ok2_some rfl) (fun _ _ => ih2 _ _ ⟨j + 1, hjl, rfl, rfl⟩ (clamp_s (by omega) hjl))
  obtain ⟨r, t, h1, h2, rfl⟩ := this
  exact ⟨r, h1, h2⟩
def PU (M : Nat → Bool) (n : Nat) (f : Int32) : Prop := (f = -1 ∧ ∀ k, n < k → k ≤ 60 → M k = true) ∨ ∃ k, n < k ∧ k ≤ 60 ∧ M k = false ∧ (∀ j, n < j → j < k → M j = true) ∧ f = nI k
theorem meas_x {I : Mem} {z : Nat} {M : Nat → Bool} (hM : ∀ n, x0_isMeasured I z (nI n) = some (M n)) {x : Int32} (hx : nI 0 ≤ x ∧ x ≤ nI 1) : ∃ f, PU M 0 f ∧ x0_measures I z x = some (if x = 0 then nI (fb_ct (fun i => M (i + 1)) 60) else f) := by
  have : ok (x0_measures I z x) (fun v => ∃ f, PU M 0 f ∧ v = if x = 0 then nI (fb_ct (fun i => M (i + 1)) 60) else f) := by
    unfold x0_measures
    rw [isIn_x, Option.bind_some, decide_eq_true hx, if_neg (by decide)]
    refine ok_jn (fun j => j.1 = nI (fb_ct (fun i => M (i + 1)) 60) ∧ PU M 0 j.2) ?_ (fun k hk => ?_)
    · rintro ⟨a, f⟩ ⟨e, hf⟩
      dsimp only at e hf ⊢
      subst e
      exact ok_ite (fun c => ok_some ⟨f, hf, by rw [if_pos c]⟩) (fun c => ok_some ⟨f, hf, by rw [if_neg c]⟩)
    · refine ok_lp (fun s => ∃ n q, n ≤ 60 ∧ q + fb_ct (fun i => M (i + 1)) n = fb_ct (fun i => M (i + 1)) 60 ∧ s.1 = nI q ∧ PU M n s.2.1 ∧ s.2.2 = nI n) (fun s => s.2.2.toNatClampNeg) ?_ fuel _ ⟨60, 0, Nat.le_refl _, Nat.zero_add _, rfl, Or.inl ⟨rfl, fun k h1 h2 => by omega⟩, rfl⟩ (by show (nI 60).toNatClampNeg < 20000; decide)
      rintro again ⟨s1, s2, s3⟩ ⟨n, q, hn, hq, e1, hf, e3⟩ ih
      dsimp only at e1 hf e3 ih ⊢
      subst e1 e3
      refine ok_ite (fun c => ?_) (fun c => ?_)
      · rw [nI_le0 (by omega)] at c
        subst c
        exact hk _ ⟨by rw [← hq]; rfl, hf⟩
      · rw [nI_le0 (by omega)] at c
        obtain ⟨n, rfl⟩ : ∃ m, n = m + 1 := ⟨n - 1, by omega⟩
        rw [hM, Option.bind_some]
        have me : (nI n).toNatClampNeg < (nI (n + 1)).toNatClampNeg := by rw [nI_clamp (by omega), nI_clamp (by omega)]; omega
        have hq' := hq
        rw [fb_ct_succ] at hq'
        refine ok_jn (fun j => j = if M (n + 1) = true then nI 1 else nI 0) ?_ (fun k' hk' => ?_)
        · rintro _ rfl
          rw [Option.bind_some, nI_m1]
          cases hm : M (n + 1) with
          | true =>
            rw [hm, if_pos rfl] at hq'
            refine ok_jn (fun j => j = s2) ?_ (fun k' hk' => ?_)
            · rintro _ rfl
              rw [if_pos rfl, nI_add]
              refine ih _ ⟨n, q + 1, by omega, by omega, rfl, ?_, rfl⟩ me
              rcases hf with ⟨e, hf⟩ | ⟨k, h1, h2, h3, h4, e⟩
              · exact Or.inl ⟨e, fun k h1 h2 => by
                  by_cases q : k = n + 1
                  · rw [q]; exact hm
                  · exact hf k (by omega) h2⟩
              · exact Or.inr ⟨k, by omega, h2, h3, fun j h5 h6 => by
                  by_cases q : j = n + 1
                  · rw [q]; exact hm
                  · exact h4 j (by omega) h6, e⟩
            · rw [if_neg (by decide)]; exact hk' _ rfl
          | false =>
            rw [hm, if_neg (by decide)] at hq'
            refine ok_jn (fun j => j = nI (n + 1)) ?_ (fun k' hk' => ?_)
            · rintro _ rfl
              rw [if_neg (by decide), nI_add]
              exact ih _ ⟨n, q + 0, by omega, by omega, rfl, Or.inr ⟨n + 1, by omega, hn, hm, fun j h1 h2 => by omega, rfl⟩, rfl⟩ me
            · rw [if_pos (by decide)]; exact hk' _ rfl
        · cases hm : M (n + 1) with
          | true => rw [if_neg (by decide)]; exact hk' _ (by rw [hm, if_pos rfl])
          | false => rw [if_pos (by decide)]; exact hk' _ (by rw [hm, if_neg (by decide)])
  obtain ⟨v, e, f, hf, rfl⟩ := this
  exact ⟨f, hf, e⟩
theorem meas_m {μ : Mem} {M : Nat → Bool} (hM : ∀ n, m_isMeasured (up2 μ 0 0 (nI 0)) (nI n) = some (M n)) {x f : Int32} (hx : nI 0 ≤ x ∧ x ≤ nI 1) (hf : PU M 0 f) : m_measures μ x = some (if x = 0 then nI (fb_ct (fun i => M (i + 1)) 60) else f, up2 μ 0 0 (nI 0)) := by
  have h01 : x = nI 0 ∨ x = nI 1 := by
    obtain ⟨n, _, h, rfl⟩ := in_nI (by decide) (by decide) hx
    have : n = 0 ∨ n = 1 := by omega
    rcases this with rfl | rfl
    · exact Or.inl rfl
    · exact Or.inr rfl
  unfold m_measures
  rw [nm_eq, isIn_m, Option.bind_some, decide_eq_true hx, if_neg (by decide)]
  refine ok_val (ok_jn (fun j => j = nI (fb_ct (fun i => M (i + 1)) 60) ∧ (x = 0 ∨ f = -1)) ?_ (fun k hk => ?_))
  · rintro _ ⟨rfl, hx0⟩
    refine ok_ite (fun c => ok_some (by rw [if_pos c])) (fun c => ok_some ?_)
    rcases hx0 with e | e
    · exact absurd e c
    · rw [if_neg c, e]
  · refine ok_lp (fun s => ∃ n, n ≤ 60 ∧ s = (nI (fb_ct (fun i => M (i + 1)) n), nI (n + 1)) ∧ (x = 0 ∨ ∀ k, 1 ≤ k → k ≤ n → M k = true)) (fun s => 62 - s.2.toNatClampNeg) ?_ fuel _ ⟨0, by decide, rfl, Or.inr (fun k h1 h2 => by omega)⟩ (by show 62 - (nI 1).toNatClampNeg < 20000; omega)
    rintro again _ ⟨n, hn, rfl, hc⟩ ih
    dsimp only
    refine ok_ite (fun c => hk _ ?_) (fun c => ?_)
    · rw [nI_ltI (by decide) (by omega)] at c
      have : n = 60 := by omega
      subst this
      refine ⟨rfl, ?_⟩
      rcases hc with h | h
      · exact Or.inl h
      · rcases hf with ⟨e, _⟩ | ⟨k, h1, h2, h3, _, _⟩
        · exact Or.inr e
        · rw [h k (by omega) h2] at h3; cases h3
    · rw [nI_ltI (by decide) (by omega)] at c
      have me : 62 - (nI (n + 1 + 1)).toNatClampNeg < 62 - (nI (n + 1)).toNatClampNeg := by rw [nI_clamp (by omega), nI_clamp (by omega)]; omega
      have ls := fb_ct_succ (fun i => M (i + 1)) n
      rw [hM, Option.bind_some, nI_add, nI_add]
      cases hm : M (n + 1) with
      | true =>
        rw [hm, if_pos rfl] at ls
        rw [if_neg (by decide), ← ls]
        refine ih _ ⟨n + 1, by omega, rfl, ?_⟩ me
        rcases hc with h | h
        · exact Or.inl h
        · exact Or.inr (fun k h1 h2 => by
            by_cases q : k = n + 1
            · rw [q]; exact hm
            · exact h k h1 (by omega))
      | false =>
        rw [hm, if_neg (by decide), Nat.add_zero] at ls
        rw [if_pos (by decide)]
        refine ok_ite (fun c1 => ok_some ?_) (fun c1 => ?_)
        · rw [if_neg (by rw [c1]; decide)]
          rcases hc with h | h
          · rw [h] at c1; exact absurd c1 (by decide)
          · rcases hf with ⟨_, h2⟩ | ⟨k, h1, h2, h3, h4, e⟩
            · rw [h2 (n + 1) (by omega) (by omega)] at hm; cases hm
            · have : k = n + 1 := by
                rcases Nat.lt_trichotomy k (n + 1) with q | q | q
                · rw [h k (by omega) (by omega)] at h3; cases h3
                · exact q
                · rw [h4 (n + 1) (by omega) q] at hm; cases hm
              rw [e, this]
        · have ls2 : fb_ct (fun i => M (i + 1)) (n + 1) = fb_ct (fun i => M (i + 1)) n := ls
          rw [← ls2]
          refine ih _ ⟨n + 1, by omega, rfl, Or.inl ?_⟩ me
          rcases h01 with e | e
          · rw [e]; exact nI_0
          · exact absurd e c1
theorem meas2 {I μ : Mem} {z : Nat} (R : R1 I μ (z + 176) 5 49 50 1 60) (x : Int32) : ∃ v, x0_measures I z x = some v ∧ m_measures μ x = some (v, up2 μ 0 0 (nI 0)) := by
  have R' : R1 I (up2 μ 0 0 (nI 0)) (z + 176) 5 49 50 1 60 := R.cong (fun _ _ _ => rfl) (up2_ne (by omega)) (fun i _ => up2_ne (by omega))
  by_cases hx : nI 0 ≤ x ∧ x ≤ nI 1
  · have h1 : ∀ n : Nat, ∃ r, x0_isMeasured I z (nI n) = some r ∧ m_isMeasured (up2 μ 0 0 (nI 0)) (nI n) = some r := fun n => isM2 R' (nI n)
    have e1 : ∀ n, x0_isMeasured I z (nI n) = some ((x0_isMeasured I z (nI n)).getD false) := fun n => by
      obtain ⟨r, q, _⟩ := h1 n
      rw [q]; rfl
    have e2 : ∀ n, m_isMeasured (up2 μ 0 0 (nI 0)) (nI n) = some ((x0_isMeasured I z (nI n)).getD false) := fun n => by
      obtain ⟨r, q, q2⟩ := h1 n
      rw [q, q2]; rfl
    obtain ⟨f, hf, e⟩ := meas_x e1 hx
    exact ⟨_, e, meas_m e2 hx hf⟩
  · refine ⟨-1, ?_, ?_⟩
    · unfold x0_measures
      rw [isIn_x, Option.bind_some, decide_eq_false hx, if_pos (by decide)]
    · unfold m_measures
      rw [nm_eq, isIn_m, Option.bind_some, decide_eq_false hx, if_pos (by decide)]
