def wa (f : Nat → Nat) (l : Nat) : Nat → Nat
  | 0 => 0
  | i + 1 => wa f l i ||| (if (f i).testBit l then 2 ^ i else 0)
theorem wa_lt (f : Nat → Nat) (l : Nat) : ∀ i, wa f l i < 2 ^ i
  | 0 => Nat.one_pos
  | i + 1 => by
    have := wa_lt f l i
    have h2 : 2 ^ i < 2 ^ (i + 1) := Nat.pow_lt_pow_right (by decide) (by omega)
    unfold wa
    refine Nat.or_lt_two_pow (by omega) ?_
    by_cases c : (f i).testBit l = true
    · rw [if_pos c]; exact h2
    · rw [if_neg c]; exact Nat.two_pow_pos _
section COUNB
variable {I μ : Mem} {z c : Nat} {w f : Nat → Nat}
theorem wanting_x (hc : c ≤ 8) (e1 : I (z + 233) 1 = nI c) (hf : ∀ i, i < c → I (z + 235 + i) 0 = nI (f i) ∧ f i < 4096) {l : Nat} (hl : l < 12) : x0_wanting I z (nI l) = some (nI (wa f l c)) := by
  refine ok_val ?_
  unfold x0_wanting
  refine ok_lp (fun s => ∃ i, i ≤ c ∧ s = (nI (wa f l i), nI i)) (fun s => c - s.2.toNatClampNeg) ?_ fuel _ ⟨0, Nat.zero_le _, rfl⟩ (clamp_0 (c := c) (by omega))
  rintro again _ ⟨i, hi, rfl⟩ ih
  dsimp only at ih ⊢
  rw [e1]
  refine ok_ite (fun q => ok_some ?_) (fun q => ?_)
  · have := (nI_leI (a := c) (b := i) (by omega) (by omega)).mp q
    rw [show i = c by omega]
  · have hlt := lt_of_nle (by omega) hi q
    have fx : x2_first I (z + 233) 8 (nI i) = some (nI (f i)) := by
      unfold x2_first
      rw [ix_eq (by omega) (by decide), Option.bind_some, rd_eq (i := 0) (by decide) (by decide), Option.bind_some, show z + 233 + 2 + i = z + 235 + i by omega, (hf i hlt).1]
    rw [fx, Option.bind_some, bit1 (hf i hlt).2 hl, shl01 (by omega), fa_or, nI_add]
    exact ok_nm (ih _ ⟨i + 1, hlt, rfl⟩ (clamp_s (by omega) hlt))
theorem council2 (R : R2 I μ (z + 233) 8 66 67 68 0 4095 1 9) (x : Int32) : ∃ v, x0_council I z x = some v ∧ m_council μ x = some (v, up2 μ 0 0 (nI 0)) := by
  have R' : R2 I (up2 μ 0 0 (nI 0)) (z + 233) 8 66 67 68 0 4095 1 9 := R.cong (fun _ _ _ => rfl) (up2_ne (by omega)) (fun i _ => up2_ne (by omega)) (fun i _ => up2_ne (by omega))
  obtain ⟨c, hc, e1, e2, h⟩ := R'
  have h67 : ∀ i, i < c → up2 μ 0 0 (nI 0) 67 i = nI ((up2 μ 0 0 (nI 0) 67 i).toNatClampNeg) ∧ (up2 μ 0 0 (nI 0) 67 i).toNatClampNeg < 4096 := fun i hi => by
    obtain ⟨v, _, hv, e⟩ := (h i hi).2.1
    rw [e, nI_clamp (by omega)]
    exact ⟨rfl, by omega⟩
  have h68 : ∀ i, i < c → up2 μ 0 0 (nI 0) 68 i = nI ((up2 μ 0 0 (nI 0) 68 i).toNatClampNeg) ∧ (up2 μ 0 0 (nI 0) 68 i).toNatClampNeg ≤ 9 := fun i hi => by
    obtain ⟨v, _, hv, e⟩ := (h i hi).2.2
    rw [e, nI_clamp (by omega)]
    exact ⟨rfl, by omega⟩
  have hx0 : ∀ i, i < c → I (z + 235 + i) 0 = nI ((up2 μ 0 0 (nI 0) 67 i).toNatClampNeg) ∧ (up2 μ 0 0 (nI 0) 67 i).toNatClampNeg < 4096 := fun i hi => ⟨by rw [show z + 235 + i = z + 233 + 2 + i by omega, (h i hi).1.1]; exact (h67 i hi).1, (h67 i hi).2⟩
  have hx1 : ∀ i, i < c → I (z + 235 + i) 1 = nI ((up2 μ 0 0 (nI 0) 68 i).toNatClampNeg) ∧ (up2 μ 0 0 (nI 0) 68 i).toNatClampNeg ≤ 9 := fun i hi => ⟨by rw [show z + 235 + i = z + 233 + 2 + i by omega, (h i hi).1.2]; exact (h68 i hi).1, (h68 i hi).2⟩
  have h2c : 2 ^ c ≤ 256 := Nat.pow_le_pow_right (show 0 < 2 by decide) hc
  have h2p : 0 < 2 ^ c := Nat.two_pow_pos c
  have wx : ∀ m, m < 4096 → x0_weights I z (nI m) = some (nI (ws (fun i => (up2 μ 0 0 (nI 0) 68 i).toNatClampNeg) m c)) := fun m hm => weights_x hc e1 hx1 hm
  have wm : ∀ m, m < 4096 → m_moreOf (up2 μ 0 0 (nI 0)) (nI m) = some (nI (ws (fun i => (up2 μ 0 0 (nI 0) 68 i).toNatClampNeg) m c) - nI (wt (fun i => (up2 μ 0 0 (nI 0) 68 i).toNatClampNeg) m c)) := fun m hm => more_m hc e2 h68 hm
  have ww := fun m => wins hc (w := fun i => (up2 μ 0 0 (nI 0) 68 i).toNatClampNeg) (fun i hi => (h68 i hi).2) m
  have : ok2 (x0_council I z x) (m_council μ x) (fun r t => t = (r, up2 μ 0 0 (nI 0))) := by
    unfold x0_council m_council
    rw [nm_eq, nm_eq, isIn_x, Option.bind_some, isIn_m, Option.bind_some, e1, e2, shl1 c (by omega), nI_sub (by omega)]
    by_cases hx : nI 0 ≤ x ∧ x ≤ nI 1
    · rw [decide_eq_true hx, if_neg bT, if_neg bT]
      have h01 : x = nI 0 ∨ x = nI 1 := by
        obtain ⟨n, _, h, rfl⟩ := in_nI (by decide) (by decide) hx
        have : n = 0 ∨ n = 1 := by omega
        rcases this with rfl | rfl
        · exact Or.inl rfl
        · exact Or.inr rfl
      -- the first loop of x's, by itself
      have law : ∀ {R : Type} {k : Int32 → Option R} {R' : Type} {p : Option R'} {Q : R → R' → Prop}, (∀ v, ok2 (k v) p Q) → ok2 (lp (fun again15 (j14 : Int32 × Int32) => if (nI 12) ≤ j14.2 then k j14.1 else (x0_wanting I z j14.2).bind fun r17 => (x0_weights I z r17).bind fun r19 => (x0_weights I z (nI (2 ^ c - 1))).bind fun r21 => jn (fun (j23 : Int32) => again15 ((j14.1 ||| j23), (j14.2 + (nI 1)))) (fun k24 => if ((nI 2) * r19) ≤ r21 then k24 (nI 0) else k24 ((nI 1) <<< (j14.2 &&& 31)))) fuel ((nI 0), (nI 0))) p Q := by
        intro R k R' p Q hk
        refine ok2_lpl (fun s => ∃ l, l ≤ 12 ∧ s.2 = nI l) (fun s => 12 - s.2.toNatClampNeg) ?_ fuel _ ⟨0, by decide, rfl⟩ (clamp_0 (c := 12) (by decide))
        rintro again ⟨s1, _⟩ ⟨l, hl, rfl⟩ ih
        dsimp only at ih ⊢
        refine ok2_il (fun _ => hk _) (fun cc => ?_)
        have hlt := lt_of_nle (by omega) hl cc
        have hwl := wa_lt (fun i => (up2 μ 0 0 (nI 0) 67 i).toNatClampNeg) l c
        rw [wanting_x hc e1 hx0 hlt, Option.bind_some, wx _ (by omega), Option.bind_some, wx _ (by omega), Option.bind_some, nI_add]
        exact ok2_jl (ok2_il (fun _ => ih _ ⟨l + 1, hlt, rfl⟩ (clamp_s (by decide) hlt)) (fun _ => ih _ ⟨l + 1, hlt, rfl⟩ (clamp_s (by decide) hlt)))
      rcases h01 with rfl | rfl
      · refine ok2_fr (by decide) ?_
        refine ok2_jgen (fun k ek => ?_)
        refine ok2_lp (fun s s' => s' = s ∧ ∃ l, l ≤ 12 ∧ s.2 = nI l) (fun s => 12 - s.2.toNatClampNeg) ?_ fuel fuel _ _ ⟨rfl, 0, by decide, rfl⟩ (clamp_0 (c := 12) (by decide)) (clamp_0 (c := 12) (by decide))
        rintro again again' ⟨s1, _⟩ _ ⟨rfl, l, hl, rfl⟩ ih
        dsimp only at ih ⊢
        refine ok2_ii Iff.rfl (fun _ _ => ?_) (fun cc _ => ?_)
        · subst ek
          exact ok2_tl nI_0 (ok2_some rfl)
        · have hlt := lt_of_nle (by omega) hl cc
          have hwl := wa_lt (fun i => (up2 μ 0 0 (nI 0) 67 i).toNatClampNeg) l c
          have go : ∀ t : Int32, ok2 (again (t, nI (l + 1))) (again' (t, nI (l + 1))) (fun r t => t = (r, up2 μ 0 0 (nI 0))) := fun t => ih _ _ ⟨rfl, l + 1, hlt, rfl⟩ (clamp_s (by decide) hlt)
          rw [wanting_x hc e1 hx0 hlt, Option.bind_some, wx _ (by omega), Option.bind_some, wx _ (by omega), Option.bind_some, nI_add]
          refine ok2_jgen (fun kx ekx => ?_)
          refine ok2_jr ?_
          refine ok2_lpr (fun s => ∃ i, i ≤ c ∧ s = (nI (wa (fun i => (up2 μ 0 0 (nI 0) 67 i).toNatClampNeg) l i), nI i)) (fun s => c - s.2.toNatClampNeg) ?_ fuel _ ⟨0, Nat.zero_le _, rfl⟩ (clamp_0 (c := c) (by omega))
          rintro ag _ ⟨i, hi, rfl⟩ ih2
          dsimp only at ih2 ⊢
          refine ok2_ir (fun cq => ?_) (fun cq => ?_)
          · have := (nI_leI (a := c) (b := i) (by omega) (by omega)).mp cq
            have : i = c := by omega
            subst this
            rw [wm _ (by omega), Option.bind_some]
            subst ekx
            refine ok2_ii (ww _) (fun _ _ => ?_) (fun _ _ => ?_)
            · dsimp only
              rw [or0]; exact go _
            · exact ok2_nr (go _)
          · have hil := lt_of_nle (by omega) hi cq
            rw [rd_eq (i := i) (by omega) (by decide), Option.bind_some, (h67 i hil).1, has_m _ (h67 i hil).2 hlt, Option.bind_some, nI_add, shl1 i (by omega), fa_or]
            have es : wa (fun i => (up2 μ 0 0 (nI 0) 67 i).toNatClampNeg) l (i + 1) = wa (fun i => (up2 μ 0 0 (nI 0) 67 i).toNatClampNeg) l i ||| (if ((up2 μ 0 0 (nI 0) 67 i).toNatClampNeg).testBit l then 2 ^ i else 0) := rfl
            cases hb : ((up2 μ 0 0 (nI 0) 67 i).toNatClampNeg).testBit l with
            | true =>
              rw [hb, if_pos rfl] at es
              rw [if_neg bT, ← es]
              exact ok2_nr (ih2 _ ⟨i + 1, hil, rfl⟩ (clamp_s (by omega) hil))
            | false =>
              rw [hb, if_neg (by decide), Nat.or_zero] at es
              rw [if_pos bF, ← es]
              exact ih2 _ ⟨i + 1, hil, rfl⟩ (clamp_s (by omega) hil)
      · refine ok2_tr rfl ?_
        refine ok2_jgen (fun k ek => law (fun v => ?_))
        subst ek
        refine ok2_fl (by decide) ?_
        refine ok2_lp (fun s s' => s' = s ∧ ∃ b q, b ≤ 12 ∧ q ≤ 2 ^ c ∧ s = (nI b, nI q)) (fun s => 2 ^ c - s.2.toNatClampNeg) ?_ fuel fuel _ _ ⟨rfl, c, 0, by omega, Nat.zero_le _, rfl⟩ (clamp_0 (c := 2 ^ c) (by omega)) (clamp_0 (c := 2 ^ c) (by omega))
        rintro again again' _ _ ⟨rfl, b, q, hb, hq, rfl⟩ ih
        dsimp only at ih ⊢
        refine ok2_ii (by rw [nI_ltI (by omega) (by omega), nI_leI (by omega) (by omega)]; omega) (fun _ _ => ok2_some rfl) (fun _ cc => ?_)
        have hlt := lt_of_nle (by omega) hq cc
        have go : ∀ b', b' ≤ 12 → ok2 (again (nI b', nI (q + 1))) (again' (nI b', nI (q + 1))) (fun r t => t = (r, up2 μ 0 0 (nI 0))) := fun b' hb' => ih _ _ ⟨rfl, b', q + 1, hb', by omega, rfl⟩ (clamp_s (by omega) hlt)
        have hpc := pc_le q
        rw [wx q (by omega), Option.bind_some, wx _ (by omega), Option.bind_some, bits_x (by omega), Option.bind_some, imin_nI (by omega) (by omega), ones_m _ (by omega), Option.bind_some, nI_add, wm q (by omega), Option.bind_some, Option.bind_some]
        by_cases cb : b ≤ pc q
        · refine ok2_tr (nI_le cb (by omega)) ?_
          rw [Nat.min_eq_left cb]
          exact ok2_il (fun _ => go b hb) (fun _ => go b hb)
        · refine ok2_fr (nI_ge (by omega) (by omega)) ?_
          rw [Nat.min_eq_right (by omega)]
          exact ok2_ii (ww q) (fun _ _ => go b hb) (fun _ _ => go _ hpc)
    · rw [decide_eq_false hx, if_pos bF, if_pos bF]
      exact ok2_some rfl
  obtain ⟨r, t, h1, h2, rfl⟩ := this
  exact ⟨r, h1, h2⟩
end COUNB
