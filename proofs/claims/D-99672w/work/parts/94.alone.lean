/-! ===== who stands alone ===== -/
theorem clamp_1 {c : Nat} (hc : c < 20000) : c - (nI 1).toNatClampNeg < fuel := by
  show _ < 20000
  omega
section T0
variable {kd : Kd} {b n nt : Nat} {P : Ptr} {I μ : Mem}
theorem BA.t0 (A : BA kd b n nt P I μ) : BA kd b n nt P I (up2 μ 0 0 (nI 0)) := ⟨A.hn, by rw [up2_k (by decide)]; exact A.hm, A.np, A.nk, A.nc, fun h hh => by rw [up2_k (by decide)]; exact A.ni h hh, fun h hh => by rw [up2_k (by decide)]; exact A.nr h hh⟩
theorem ST.t0 (S : ST b P I μ P I μ) : ST b P I (up2 μ 0 0 (nI 0)) P I (up2 μ 0 0 (nI 0)) := ⟨S.br.mo _ (by unfold mi; omega), fun i hi => by rw [up2_k (by decide)]; exact S.rgs i hi, fun h5 l hl e => by rw [up2_k (by decide)] at e h5 ⊢; exact S.bk h5 l hl e, fun h5 => rfl, fun _ _ => rfl, fun _ _ _ => rfl, fun _ _ _ _ _ => rfl, fun _ _ _ => rfl, ln_rfl⟩
theorem sm_nI {P0 : Ptr} {I0 μ0 : Mem} (S : ST b P0 I0 μ0 P I μ) {h : Nat} (hh : h < 12) : ∃ q, q ≤ 396 ∧ sm μ h = nI q := by
  obtain ⟨a0, b0, c0⟩ := S.wl hh (show 0 < 4 by decide)
  obtain ⟨a1, b1, c1⟩ := S.wl hh (show 1 < 4 by decide)
  obtain ⟨a2, b2, c2⟩ := S.wl hh (show 2 < 4 by decide)
  obtain ⟨a3, b3, c3⟩ := S.wl hh (show 3 < 4 by decide)
  refine ⟨a0 + a1 + a2 + a3, by omega, ?_⟩
  unfold sm wl
  rw [c0, c1, c2, c3, nI_add, nI_add, nI_add]
end T0
section ALONE
variable {kd : Kd} {z n nt : Nat} {P : Ptr} {I μ : Mem}
theorem areAlone2 (A : BA kd (z + 2) n nt P I μ) (S : ST (z + 2) P I μ P I μ) {s : Nat} (hs : s < 4096) : ∃ r, x0_areAlone kd P I z (nI s) = some r ∧ m_areAlone μ (nI s) = some r := by
  have hn := A.hn
  have : ok2 (x0_areAlone kd P I z (nI s)) (m_areAlone μ (nI s)) (fun r t => r = t) := by
    unfold x0_areAlone m_areAlone
    refine ok2_lp (fun s s' => ∃ i, i ≤ n ∧ s = nI i ∧ s' = nI i) (fun s => n - s.toNatClampNeg) ?_ fuel fuel _ _ ⟨0, Nat.zero_le _, rfl, rfl⟩ (clamp_0 (c := n) (by omega)) (clamp_0 (c := n) (by omega))
    rintro again again' _ _ ⟨i, hi, rfl, rfl⟩ ih
    refine ok2_ii (by rw [S.br.houses]) (fun _ _ => ok2_some rfl) (fun _ c => ?_)
    rw [A.hm] at c
    have hlt := lt_of_nle (by omega) hi c
    have go : ok2 (again (nI (i + 1))) (again' (nI (i + 1))) (fun r t => r = t) := ih _ _ ⟨i + 1, hlt, rfl, rfl⟩ (clamp_s (by omega) hlt)
    rw [has_m μ hs (show i < 12 by omega), Option.bind_some, nI_add]
    have hb := hasb hs (show i < 12 by omega)
    refine ok2_il (fun c1 => ?_) (fun c1 => ?_)
    · rw [decide_eq_true c1] at hb
      rw [← hb, if_neg bT, A.pk S, Option.bind_some, rd_eq (i := i) (by omega) (by decide), Option.bind_some, rd_eq (i := i) (by omega) (by decide), Option.bind_some, A.nx S (by omega)]
      exact ok2_ii Iff.rfl (fun _ _ => go) (fun _ _ => ok2_some rfl)
    · rw [decide_eq_false c1] at hb
      rw [← hb, if_pos bF]
      exact go
  obtain ⟨r, t, h1, h2, rfl⟩ := this
  exact ⟨r, h1, h2⟩
theorem alone2 (A : BA kd (z + 2) n nt P I μ) (S : ST (z + 2) P I μ P I μ) (x : Int32) : ∃ v, x0_alone kd P I z x = some v ∧ m_alone μ x = some (v, up2 μ 0 0 (nI 0)) := by
  have hn := A.hn
  have A' := A.t0
  have S' := S.t0
  have br' := S'.br
  have : ok2 (x0_alone kd P I z x) (m_alone μ x) (fun r t => t = (r, up2 μ 0 0 (nI 0))) := by
    unfold x0_alone m_alone
    rw [nm_eq, isIn_x, Option.bind_some, isIn_m, Option.bind_some]
    refine ok2_ii Iff.rfl (fun _ _ => ok2_some rfl) (fun _ _ => ?_)
    rw [bss br' hn A'.hm, Option.bind_some, standing_m hn A'.hm, Option.bind_some]
    have hss := ss_lt12 (up2 μ 0 0 (nI 0)) hn
    refine ok2_jj (fun j j' => j' = j ∧ ∃ k, k < 4096 ∧ j = nI k) ?_ (fun k k' hk => ?_)
    · rintro _ _ ⟨rfl, k, hk, rfl⟩
      refine ok2_ii Iff.rfl (fun _ _ => ?_) (fun _ _ => ok2_some rfl)
      rw [bits_x hk, ones_m _ hk, Option.bind_some, Option.bind_some]
      exact ok2_some rfl
    · refine ok2_lp (fun s s' => s' = s ∧ ∃ b q, b < 4096 ∧ 1 ≤ q ∧ q ≤ ss (up2 μ 0 0 (nI 0)) n + 1 ∧ s = (nI b, nI q)) (fun s => 5000 - s.2.toNatClampNeg) ?_ fuel fuel _ _ ⟨rfl, 0, 1, by decide, Nat.le_refl _, by omega, rfl⟩ (clamp_1 (c := 5000) (by decide)) (clamp_1 (c := 5000) (by decide))
      rintro again again' _ _ ⟨rfl, b, q, hb, hq1, hq, rfl⟩ ih
      dsimp only at ih ⊢
      refine ok2_ii Iff.rfl (fun _ _ => hk _ _ ⟨rfl, b, hb, rfl⟩) (fun c _ => ?_)
      rw [nI_ltI (by omega) (by omega)] at c
      have hq4 : q < 4096 := by omega
      have go : ∀ b', b' < 4096 → ok2 (again (nI b', nI (q + 1))) (again' (nI b', nI (q + 1))) (fun r t => t = (r, up2 μ 0 0 (nI 0))) := fun b' hb' => ih _ _ ⟨rfl, b', q + 1, hb', by omega, by omega, rfl⟩ (clamp_s (by decide) (by omega))
      rw [nI_add]
      refine ok2_ii Iff.rfl (fun _ _ => ?_) (fun _ _ => go _ hb)
      rw [bits_x hq4, bits_x hb, ones_m _ hq4, ones_m _ hb, Option.bind_some, Option.bind_some, Option.bind_some, Option.bind_some]
      refine ok2_ii Iff.rfl (fun _ _ => go _ hb) (fun _ _ => ?_)
      obtain ⟨r, r1, r2⟩ := areAlone2 A' S' hq4
      rw [r1, r2, Option.bind_some, Option.bind_some]
      exact ok2_ii Iff.rfl (fun _ _ => go _ hb) (fun _ _ => go _ hq4)
  obtain ⟨r, t, h1, h2, rfl⟩ := this
  exact ⟨r, h1, h2⟩
end ALONE
