/-! ===== the tape ===== -/
section FEED
variable {z : Nat} {kd : Kd} {P : Ptr} {I I' μ μ' : Mem}
/-- what lies on top: the tape, the fault -/
theorem RR.top (R : RR z kd P I μ) (fx : ∀ a, a ≠ z → a ≠ z + 1 → I' a = I a) (fz : ∀ j, j = 8 ∨ j = 9 → I' z j = I z j) (fm : ∀ k, ¬ (k = 10 ∨ k = 11 ∨ k = 31 ∨ k = 32) → μ' k = μ k) (tap : TAP z I' μ') (flt : I' z 2 = μ' 31 0 ∧ I' z 3 = μ' 32 0) : RR z kd P I' μ' := by
  have e74 : vw μ' = vw μ := vw_eq (fm 74 (by omega))
  have hM : KEEP z kd kd P P I I' := fun a _ ha => ⟨fx a (by unfold IMM at ha; omega) (by unfold IMM at ha; omega), rfl, rfl⟩
  have hr : ∀ {k i : Nat}, rki k i → ¬ (k = 10 ∨ k = 11 ∨ k = 31 ∨ k = 32) := fun h e => by
    rcases e with rfl | rfl | rfl | rfl <;> exact absurd h (Nat.not_lt_zero _)
  refine ⟨R.K, R.bor.cong R.K (fun a h1 h2 => fx a (by omega) (by omega)) (fun j _ => by rw [fx (z + 2) (by omega) (by omega)]) hM (fun j _ => rfl) (fun k i h => by rw [fm k (hr h)]), ?_, by rw [fx (z + 540) (by omega) (by omega)]; exact R.th, by rw [fx (z + 271) (by omega) (by omega)]; exact R.tk, ?_, tap, flt, fun t h1 h2 h3 => by rw [fx (z + 2462) (by omega) (by omega)]; exact R.memo t h1 h2 h3, by rw [fm 69 (by omega)]; exact R.w69, fun i hi => by rw [fm 16 (by omega)]; exact R.wrd i hi⟩
  · rcases R.img with ⟨a, b⟩ | ⟨a, b, c⟩
    · exact Or.inl ⟨by rw [fz 9 (by omega)]; exact a, by rw [fm 72 (by omega)]; exact b⟩
    · refine Or.inr ⟨by rw [fz 9 (by omega)]; exact a, by rw [fm 72 (by omega)]; exact b, ?_⟩
      exact c.cong R.K (fun a h1 h2 => fx a (by omega) (by omega)) (fun j _ => by rw [fx (z + 271) (by omega) (by omega)]) hM (fun j _ => rfl) (fun k i h => by rw [e74])
  · obtain ⟨l, hl, el⟩ := R.bor.st.lines
    exact R.und.frame (by rw [fz 8 (by omega)]) (fun a h1 h2 => fx a (by omega) (by omega)) rfl (fm 2 (by omega)) (by rw [fm 3 (by omega)]) (fm 7 (by omega)) (fm 8 (by omega)) (fun l l' h h' e e' => by rw [fm 1 (by omega)] at e'; exact ln_rfl l l' h h' e e') ⟨l, hl, by rw [fm 1 (by omega)]; exact el⟩
def TP (z t : Nat) (I μ : Mem) : Prop := I z 1 = nI t ∧ μ 11 0 = nI t ∧ ∀ i, i < t → ∃ c, c < 256 ∧ μ 10 i = nI c ∧ I (z + 1) i = (nI c).toInt8.toInt32
theorem byte2 (x : Int32) : ∃ c, c < 256 ∧ x &&& nI 255 = nI c ∧ x.toInt8.toInt32 = (nI c).toInt8.toInt32 := by
  obtain ⟨c, hc, e⟩ := pk_andE x (m := nI 255) 8 (by decide)
  refine ⟨c, hc, e, ?_⟩
  rw [← e, show nI 255 = (255 : Int32) from rfl, fa_byte_low]
theorem word2 {t : Nat} (ht : t + 4 ≤ 400) (T : TP z t I μ) (x : Int32) : ok2 (x0_word I z x) (m_types μ x) (fun J ν => TP z (t + 4) J ν ∧ (∀ a, a ≠ z → a ≠ z + 1 → J a = I a) ∧ (∀ j, j ≠ 1 → J z j = I z j) ∧ ∀ k, k ≠ 10 → k ≠ 11 → ν k = μ k) := by
  unfold x0_word m_types
  refine ok2_for 4 (fun i s s' => s.1 = s'.1 ∧ s.1 = (if i = 4 then (-8 : Int32) else nI (24 - 8 * i)) ∧ TP z (t + i) s.2 s'.2 ∧ (∀ a, a ≠ z → a ≠ z + 1 → s.2 a = I a) ∧ (∀ j, j ≠ 1 → s.2 z j = I z j) ∧ ∀ k, k ≠ 10 → k ≠ 11 → s'.2 k = μ k) (by decide) ?_ ⟨rfl, rfl, T, fun _ _ _ => rfl, fun _ _ => rfl, fun _ _ _ => rfl⟩
  rintro again again' i ⟨s1, J⟩ ⟨_, ν⟩ hi ⟨rfl, e, ⟨T1, T2, T3⟩, f1, f2, f3⟩ ih
  dsimp only at e T1 T2 T3 f1 f2 f3 ⊢
  refine ok2_ii Iff.rfl (fun c _ => ?_) (fun c _ => ?_)
  · have hi4 : i = 4 := by
      rcases Nat.lt_or_ge i 4 with h | h
      · rw [e, if_neg (by omega)] at c
        exact absurd c (nI_pos (by omega))
      · omega
    subst hi4
    exact ok2_some ⟨⟨T1, T2, T3⟩, f1, f2, f3⟩
  · have hi4 : i < 4 := by
      rcases Nat.lt_or_ge i 4 with h | h
      · exact h
      · rw [e, if_pos (by omega)] at c
        exact absurd (by decide) c
    obtain ⟨b, hb, eb1, eb2⟩ := byte2 (x >>> (s1 &&& 31))
    rw [T1, T2, wr_eq (i := t + i) (by omega) (by decide), Option.bind_some, wr_eq (i := t + i) (by omega) (by decide), Option.bind_some, nm_eq, nm_eq, up2_k (show z ≠ z + 1 by omega), T1, up2_k (show (11 : Nat) ≠ 10 by decide), T2, nI_add, pk_vb, eb1, eb2]
    refine ih hi4 _ _ ⟨rfl, ?_, ⟨by dsimp only; rw [up2_same, Nat.add_assoc], by dsimp only; rw [up2_same, Nat.add_assoc], fun j hj => ?_⟩, fun a h1 h2 => ?_, fun j hj => ?_, fun k h1 h2 => ?_⟩
    · dsimp only
      rw [e, if_neg (by omega)]
      have : i = 0 ∨ i = 1 ∨ i = 2 ∨ i = 3 := by omega
      rcases this with rfl | rfl | rfl | rfl <;> decide
    · dsimp only
      rw [up2_k (show (10 : Nat) ≠ 11 by decide), up2_k (show z + 1 ≠ z by omega)]
      by_cases ej : j = t + i
      · subst ej
        exact ⟨b, hb, up2_same _ _ _ _, up2_same _ _ _ _⟩
      · rw [up2_ne (Or.inr ej), up2_ne (Or.inr ej)]
        exact T3 j (by omega)
    · dsimp only; rw [up2_k h1, up2_k h2]; exact f1 a h1 h2
    · dsimp only; rw [up2_ne (Or.inr hj), up2_k (by omega)]; exact f2 j hj
    · dsimp only; rw [up2_k h2, up2_k h1]; exact f3 k h1 h2
theorem c_feed (R : RR z kd P I μ) (x1 x2 x3 x4 x5 : Int32) : ok2 (x0_feed I z x1 x2 x3 x4 x5) (m_feed μ x1 x2 x3 x4 x5) (fun r t => r.1 = t.1 ∧ RR z kd P r.2 t.2) := by
  have R' := R.t0 (nI 0)
  obtain ⟨t, ht, e1, e2, hT⟩ := R'.tap
  unfold x0_feed m_feed
  rw [nm_eq]
  generalize hν : up2 μ 0 0 (nI 0) = ν at *
  rw [e1, e2, nI_add]
  refine ok2_ii (by rw [nI_leI (by omega) (by decide), nI_leI (by omega) (by decide)]; omega) (fun c _ => ?_) (fun _ _ => ok2_some ⟨rfl, R'⟩)
  have := le_iff (by omega) (by decide) c
  refine ok2_b (word2 (t := t) (by omega) ⟨e1, e2, hT⟩ x1) (fun J1 ν1 h1 => ?_)
  obtain ⟨T1, a1, b1, c1⟩ := h1
  refine ok2_b (word2 (t := t + 4) (by omega) T1 x2) (fun J2 ν2 h2 => ?_)
  obtain ⟨T2, a2, b2, c2⟩ := h2
  refine ok2_b (word2 (t := t + 4 + 4) (by omega) T2 x3) (fun J3 ν3 h3 => ?_)
  obtain ⟨T3, a3, b3, c3⟩ := h3
  refine ok2_b (word2 (t := t + 4 + 4 + 4) (by omega) T3 x4) (fun J4 ν4 h4 => ?_)
  obtain ⟨T4, a4, b4, c4⟩ := h4
  refine ok2_b (word2 (t := t + 4 + 4 + 4 + 4) (by omega) T4 x5) (fun J5 ν5 h5 => ?_)
  obtain ⟨T5, a5, b5, c5⟩ := h5
  refine ok2_some ⟨by dsimp only; rw [T5.1, T5.2.1], ?_⟩
  have fz : ∀ j, j ≠ 1 → J5 z j = I z j := fun j hj => by rw [b5 j hj, b4 j hj, b3 j hj, b2 j hj, b1 j hj]
  have fm : ∀ k, k ≠ 10 → k ≠ 11 → ν5 k = ν k := fun k h1 h2 => by rw [c5 k h1 h2, c4 k h1 h2, c3 k h1 h2, c2 k h1 h2, c1 k h1 h2]
  dsimp only
  refine R'.top (fun a h1 h2 => by rw [a5 a h1 h2, a4 a h1 h2, a3 a h1 h2, a2 a h1 h2, a1 a h1 h2]) (fun j hj => fz j (by omega)) (fun k hk => fm k (by omega) (by omega)) ⟨t + 4 + 4 + 4 + 4 + 4, by omega, T5.1, T5.2.1, T5.2.2⟩ ?_
  rw [fz 2 (by decide), fz 3 (by decide), fm 31 (by decide) (by decide), fm 32 (by decide) (by decide)]
  exact R'.flt
theorem c_end (R : RR z kd P I μ) (x : Int32) : ok2 (x0_end I z x) (m_end μ x) (fun r t => r.1 = t.1 ∧ RR z kd P r.2 t.2) := by
  have R' := R.t0 (nI 0)
  obtain ⟨t, ht, e1, e2, hT⟩ := R'.tap
  unfold x0_end m_end
  simp only [nm_eq]
  generalize hν : up2 μ 0 0 (nI 0) = ν at *
  rw [e1, e2, isIn_x, isIn_m, Option.bind_some, Option.bind_some]
  refine ok2_ii Iff.rfl (fun _ _ => ok2_some ⟨rfl, R'⟩) (fun c1 _ => ok2_some ⟨rfl, ?_⟩)
  obtain ⟨v, _, hv, rfl⟩ := in_nI (by decide) (by omega) (of_decide_eq_true (sd_bI c1))
  dsimp only
  refine R'.top (fun a h1 h2 => up2_k h1) (fun j hj => up2_ne (by omega)) (fun k hk => up2_k (by omega)) ⟨v, by omega, up2_same _ _ _ _, up2_same _ _ _ _, fun i hi => ?_⟩ ?_
  · rw [up2_k (by decide), up2_k (by omega)]
    exact hT i (by omega)
  · rw [up2_ne (show z ≠ z ∨ (2 : Nat) ≠ 1 by omega), up2_ne (show z ≠ z ∨ (3 : Nat) ≠ 1 by omega), up2_k (show (31 : Nat) ≠ 11 by decide), up2_k (show (32 : Nat) ≠ 11 by decide)]
    exact R'.flt
end FEED
