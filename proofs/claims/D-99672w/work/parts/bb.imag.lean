section IMG2
variable {z : Nat} {kd : Kd} {P : Ptr} {I I' μ ν : Mem}
def i7 (μ : Mem) (t : Bool) : Mem := up2 (up2 (up2 μ 71 0 (bI t)) 72 0 (nI 1)) 73 0 (nI 0)
theorem imag_m (μ1 : Mem) (t : Bool) : ok (nm (up2 μ1 71 0 (bI t)) fun μ5 => nm (up2 μ5 72 0 (nI 1)) fun μ6 => nm (up2 μ6 73 0 (nI 0)) fun μ7 => jn (fun (j8 : Mem) => (m_keepsMany j8).bind fun r11 => (m_keepsTold r11).bind fun r12 => jn (fun (j13 : Mem) => (m_keepsLaw j13).bind fun r16 => if (bI t) = 0 then nm (up2 r16 3 0 (nI 0)) fun μ17 => some (true, μ17) else some (true, r16)) (fun k14 => lp (fun again19 (j18 : Int32 × Mem) => if (nI 600) ≤ j18.1 then k14 j18.2 else (rd j18.2 9 600 j18.1).bind fun v21 => (m_keeps j18.2 v21).bind fun r22 => (wr r22.2 9 600 j18.1 r22.1).bind fun μ23 => again19 ((j18.1 + (nI 1)), μ23)) fuel ((nI 0), r12))) (fun k9 => lp (fun again25 (j24 : Int32 × Mem) => if (nI 115) ≤ j24.1 then k9 j24.2 else (rd j24.2 1 115 j24.1).bind fun v27 => (m_keeps j24.2 v27).bind fun r28 => (wr r28.2 1 115 j24.1 r28.1).bind fun μ29 => again25 ((j24.1 + (nI 1)), μ29)) fuel ((nI 0), μ7))) (fun r => r.1 = true ∧ ∃ ρ, KS t (i7 μ1 t) 1850 ρ ∧ r.2 = if t = true then ρ else up2 ρ 3 0 (nI 0)) := by
  simp only [nm_eq, jn_eq]
  have H : KS t (i7 μ1 t) 0 (i7 μ1 t) := ⟨by unfold i7; rw [up2_k (by decide), up2_k (by decide), up2_same], by unfold i7; rw [up2_same], fun _ => ⟨fun _ _ _ => rfl, fun k i _ _ h => absurd h (Nat.not_lt_zero _)⟩, fun _ => ⟨rfl, fun k i _ _ h => absurd h (Nat.not_lt_zero _), fun _ _ _ _ => rfl⟩⟩
  obtain ⟨ρ, H, e⟩ := kloop H (k := 1) (len := 115) (cap := 115) rfl (by decide) rfl rfl (by decide) (by decide)
  rw [show up2 (up2 (up2 μ1 71 0 (bI t)) 72 0 (nI 1)) 73 0 (nI 0) = i7 μ1 t from rfl, e]
  refine ok_bind' (keepsMany_m H) (fun ρ H => ?_)
  refine ok_bind' (keepsTold_m H) (fun ρ H => ?_)
  obtain ⟨ρ, H, e⟩ := kloop H (k := 9) (len := 600) (cap := 600) rfl (by decide) rfl rfl (by decide) (by decide)
  rw [e]
  refine ok_bind' (keepsLaw_m H) (fun ρ H => ?_)
  cases t with
  | false => exact ok_t bF (ok_some ⟨rfl, ρ, H, by rw [if_neg (by decide)]⟩)
  | true => exact ok_f bT (ok_some ⟨rfl, ρ, H, by rw [if_pos rfl]⟩)
theorem i7_k (μ : Mem) (t : Bool) {k : Nat} (h : k ≠ 71 ∧ k ≠ 72 ∧ k ≠ 73) : i7 μ t k = μ k := by
  unfold i7
  rw [up2_k h.2.2, up2_k h.2.1, up2_k h.1]
theorem c_image (R : RR z kd P I μ) (x : Bool) : ok2 (x0_image kd P I z x) (m_image μ x) (fun r t => r.1 = t.1 ∧ RR z kd r.2.1 r.2.2 t.2) := by
  have R' := R.t0 (nI 0)
  unfold x0_image m_image
  rw [nm_eq, jn_eq, jn_eq]
  generalize hν : up2 μ 0 0 (nI 0) = ν at *
  obtain ⟨⟨b, μ'⟩, em, hb, ρ, H, hμ⟩ := imag_m ν x
  dsimp only at hb hμ
  subst hb
  have nr : ∀ {k i : Nat}, rki k i → k ≠ 71 ∧ k ≠ 72 ∧ k ≠ 73 ∧ k ≠ 74 ∧ k ≠ 3 := fun h => by
    refine ⟨?_, ?_, ?_, ?_, ?_⟩ <;> (rintro rfl; exact absurd h (Nat.not_lt_zero _))
  obtain ⟨m, hm, u1, u2, π, L, hπ, hi, hs, hL, hL2⟩ := R'.und
  cases x with
  | true =>
    rw [if_neg bT, if_neg bT, em, jn_eq, jn_eq, if_neg bT]
    rw [if_pos rfl] at hμ
    subst hμ
    obtain ⟨_, _, hT, _⟩ := H
    obtain ⟨t1, t2⟩ := hT rfl
    have mk : ∀ k, k ≠ 71 → k ≠ 72 → k ≠ 73 → k ≠ 74 → μ' k = ν k := fun k h1 h2 h3 h4 => by rw [t1 k h3 h4, i7_k ν true ⟨h1, h2, h3⟩]
    refine ok2_l ?_
    refine ok_mono (takesX R'.K (Or.inr ⟨rfl, rfl⟩) R'.bor R'.tk) ?_
    rintro ⟨Q, J⟩ ⟨BK, f1, f2, f3, f4⟩
    dsimp only at BK f1 f2 f3 f4 ⊢
    rw [if_neg bT, nm_eq]
    have jz : ∀ q, q ≠ z → up2 J z 9 (nI 1) q = J q := fun q hq => up2_k hq
    have jo : ∀ q, q ≠ z → ¬ (z + 271 ≤ q ∧ q < z + 540) → up2 J z 9 (nI 1) q = I q := fun q h1 h2 => by rw [jz q h1, f1 q (by omega)]
    have jz9 : ∀ j, j ≠ 9 → up2 J z 9 (nI 1) z j = I z j := fun j hj => by rw [up2_ne (Or.inr hj), f1 z (by omega)]
    have hM : KEEP z kd kd P Q I (up2 J z 9 (nI 1)) := fun a _ ha => ⟨by
      rw [jz a (by unfold IMM at ha; omega)]
      by_cases c : z + 512 ≤ a ∧ a < z + 516
      · exact f2 a (by omega) (by omega)
      · exact f1 a (by unfold IMM at ha; omega), f4 a (by unfold IMM at ha; omega), rfl⟩
    have hvw : ∀ k i, rki k i → vw μ' k i = ν k i := fun k i hr => by
      unfold vw
      by_cases h5 : k = 5
      · subst h5
        have : i = 0 := by have : i < 1 := hr; omega
        subst this
        rw [if_pos rfl]; exact R'.bor.t5.symm
      · rw [if_neg h5, t2 k i hr h5 (iv_eq hr h5).2, i7_k ν true ⟨(nr hr).1, (nr hr).2.1, (nr hr).2.2.1⟩]
    refine ok2_some ⟨rfl, ⟨R'.K, ?_, Or.inr ⟨up2_same _ _ _ _, ?_, ?_⟩, by rw [jo (z + 540) (by omega) (by omega)]; exact R'.th, by rw [jz _ (by omega)]; exact f3, ?_, ?_, ?_, fun t h1 h2 h3 => by rw [jo (z + 2462) (by omega) (by omega)]; exact R'.memo t h1 h2 h3, by rw [mk 69 (by decide) (by decide) (by decide) (by decide)]; exact R'.w69, fun i hi => by rw [mk 16 (by decide) (by decide) (by decide) (by decide)]; exact R'.wrd i hi⟩⟩
    · exact R'.bor.cong R'.K (fun a h1 h2 => jo a (by omega) (by omega)) (fun j _ => by rw [jo (z + 2) (by omega) (by omega)]) hM (fun j _ => by rw [f4 (z + 2) (by omega)]) (fun k i h => by rw [mk k (nr h).1 (nr h).2.1 (nr h).2.2.1 (nr h).2.2.2.1])
    · rw [t1 72 (by decide) (by decide)]
      unfold i7
      rw [up2_k (by decide), up2_same]
    · exact BK.cong R'.K (fun a h1 h2 => jz a (by omega)) (fun j _ => by rw [jz _ (by omega)]) (fun a _ ha => ⟨jz a (by unfold IMM at ha; omega), rfl, rfl⟩) (fun _ _ => rfl) hvw
    · obtain ⟨l, hl, el⟩ := R'.bor.st.lines
      exact R'.und.frame (jz9 8 (by decide)) (fun a h1 h2 => jo a (by omega) (by omega)) (f4 _ (by omega)) (mk 2 (by decide) (by decide) (by decide) (by decide)) (by rw [mk 3 (by decide) (by decide) (by decide) (by decide)]) (mk 7 (by decide) (by decide) (by decide) (by decide)) (mk 8 (by decide) (by decide) (by decide) (by decide)) (fun l l' h h' e e' => by rw [mk 1 (by decide) (by decide) (by decide) (by decide)] at e'; exact ln_rfl l l' h h' e e') ⟨l, hl, by rw [mk 1 (by decide) (by decide) (by decide) (by decide)]; exact el⟩
    · obtain ⟨t, ht, a, b, c⟩ := R'.tap
      refine ⟨t, ht, by rw [jz9 1 (by decide)]; exact a, by rw [mk 11 (by decide) (by decide) (by decide) (by decide)]; exact b, fun i hi => ?_⟩
      rw [jo (z + 1) (by omega) (by omega), mk 10 (by decide) (by decide) (by decide) (by decide)]
      exact c i hi
    · rw [jz9 2 (by decide), jz9 3 (by decide), mk 31 (by decide) (by decide) (by decide) (by decide), mk 32 (by decide) (by decide) (by decide) (by decide)]
      exact R'.flt
  | false =>
    rw [if_pos bF, if_pos bF]
    rcases R'.img with ⟨i1, i2⟩ | ⟨i1, i2, BK⟩
    · rw [i1, i2, if_pos nI_0]
      exact ok2_some ⟨rfl, R'⟩
    · rw [i1, i2, if_neg (by decide), em, jn_eq, jn_eq, if_pos bF, if_pos bF]
      rw [if_neg (by decide)] at hμ
      subst hμ
      obtain ⟨_, _, _, hF⟩ := H
      obtain ⟨g1, g2, g3⟩ := hF rfl
      have mk : ∀ k i, ¬ (rki k i ∧ k ≠ 5) → k ≠ 71 → k ≠ 72 → k ≠ 73 → k ≠ 3 → up2 ρ 3 0 (nI 0) k i = ν k i := fun k i h h1 h2 h3 h4 => by rw [up2_k h4, g3 k i h h3, i7_k ν false ⟨h1, h2, h3⟩]
      have n0 : ∀ {k i : Nat}, rl k = 0 → ¬ (rki k i ∧ k ≠ 5) := fun h q => by have := q.1; unfold rki at this; omega
      have hz2 : I (z + 2) 23 = nI 0 := by rw [R'.bor.br.thought, R'.bor.t5]; rfl
      refine ok2_l ?_
      refine ok_mono (takesX R'.K (Or.inl ⟨rfl, rfl⟩) BK hz2) ?_
      rintro ⟨Q, J⟩ ⟨B2, f1, f2, f3, f4⟩
      dsimp only at B2 f1 f2 f3 f4 ⊢
      unfold x0_forgets
      rw [nm_eq, Option.bind_some, nm_eq]
      generalize hJ2 : up2 (up2 J z 8 (nI 0)) z 9 (nI 1) = J2
      have jz : ∀ q, q ≠ z → J2 q = J q := fun q hq => by rw [← hJ2, up2_k hq, up2_k hq]
      have jo : ∀ q, q ≠ z → ¬ (z + 2 ≤ q ∧ q < z + 271) → J2 q = I q := fun q h1 h2 => by rw [jz q h1, f1 q (by omega)]
      have jz9 : ∀ j, j ≠ 8 → j ≠ 9 → J2 z j = I z j := fun j h8 h9 => by rw [← hJ2, up2_ne (Or.inr h9), up2_ne (Or.inr h8), f1 z (by omega)]
      have hM : KEEP z kd kd P Q I J2 := fun a _ ha => ⟨by
        rw [jz a (by unfold IMM at ha; omega)]
        by_cases c : z + 243 ≤ a ∧ a < z + 247
        · exact f2 a (by omega) (by omega)
        · exact f1 a (by unfold IMM at ha; omega), f4 a (by unfold IMM at ha; omega), rfl⟩
      have e74 : vw (up2 ρ 3 0 (nI 0)) = vw ν := vw_eq (by rw [up2_k (by decide), g1, i7_k ν false (by decide)])
      have hvw : ∀ k i, rki k i → up2 ρ 3 0 (nI 0) k i = vw ν k i := fun k i hr => by
        unfold vw
        rw [up2_k (nr hr).2.2.2.2]
        by_cases h5 : k = 5
        · subst h5
          have : i = 0 := by have : i < 1 := hr; omega
          subst this
          rw [if_pos rfl, g3 5 0 (fun q => q.2 rfl) (by decide), i7_k ν false (by decide)]
          exact R'.bor.t5
        · rw [if_neg h5, g2 k i hr h5 (iv_eq hr h5).2, i7_k ν false (by decide)]
      obtain ⟨l, hl, el⟩ := BK.st.lines
      have el2 : up2 ρ 3 0 (nI 0) 1 2 = nI l := by rw [hvw 1 2 (show 2 < 115 by decide)]; exact el
      refine ok2_some ⟨rfl, ⟨R'.K, ?_, Or.inr ⟨by rw [← hJ2, up2_same], ?_, ?_⟩, by rw [jo (z + 540) (by omega) (by omega)]; exact R'.th, by rw [jo (z + 271) (by omega) (by omega)]; exact R'.tk, ?_, ?_, ?_, fun t h1 h2 h3 => by rw [jo (z + 2462) (by omega) (by omega)]; exact R'.memo t h1 h2 h3, by rw [mk 69 0 (n0 rfl) (by decide) (by decide) (by decide) (by decide)]; exact R'.w69, fun i hi => by rw [mk 16 i (n0 rfl) (by decide) (by decide) (by decide) (by decide)]; exact R'.wrd i hi⟩⟩
      · exact B2.cong R'.K (fun a h1 h2 => jz a (by omega)) (fun j _ => by rw [jz _ (by omega)]) (fun a _ ha => ⟨jz a (by unfold IMM at ha; omega), rfl, rfl⟩) (fun _ _ => rfl) hvw
      · rw [up2_k (by decide), g3 72 0 (n0 rfl) (by decide)]
        unfold i7
        rw [up2_k (by decide), up2_same]
      · exact BK.cong R'.K (fun a h1 h2 => jo a (by omega) (by omega)) (fun j _ => by rw [jo (z + 271) (by omega) (by omega)]) hM (fun j _ => by rw [f4 (z + 271) (by omega)]) (fun k i h => by rw [e74])
      · exact ⟨0, by decide, by rw [← hJ2, up2_ne (by omega), up2_same], up2_same _ _ _ _, π, fun _ => l, fun j hj => by rw [f4 _ (by omega)]; exact hπ j hj, hi, fun j hj => by omega, el2, hl⟩
      · obtain ⟨t, ht, a, b, c⟩ := R'.tap
        refine ⟨t, ht, by rw [jz9 1 (by decide) (by decide)]; exact a, by rw [mk 11 0 (n0 rfl) (by decide) (by decide) (by decide) (by decide)]; exact b, fun i hi => ?_⟩
        rw [jo (z + 1) (by omega) (by omega), mk 10 i (n0 rfl) (by decide) (by decide) (by decide) (by decide)]
        exact c i hi
      · rw [jz9 2 (by decide) (by decide), jz9 3 (by decide) (by decide), mk 31 0 (n0 rfl) (by decide) (by decide) (by decide) (by decide), mk 32 0 (n0 rfl) (by decide) (by decide) (by decide) (by decide)]
        exact R'.flt
end IMG2
