/-! ===== in thought ===== -/
section THOU
variable {z : Nat} {kd : Kd} {P : Ptr} {I I' μ μ' : Mem}
/-- the thought has begun -/
def TH (z : Nat) (kd : Kd) (P : Ptr) (I μ : Mem) (Q : Ptr) (J ν : Mem) : Prop := (∃ lw cl sk cs of co nt n, BA kd (z + 540) n nt Q J ν ∧ BL kd (z + 540) sk cs of co Q J ν ∧ BW kd (z + 540) lw cl Q J ν ∧ μ 6 0 = nI n) ∧ ST (z + 540) Q J ν Q J ν ∧ (∀ a, ¬ (z + 540 ≤ a ∧ a < z + 809) → J a = I a) ∧ J (z + 540) 23 = I (z + 540) 23 ∧ (∀ a, a ≠ z + 540 → Q a = P a) ∧ (∀ i, i < 115 → ν 4 i = μ 1 i) ∧ (∀ k, k ≠ 4 → k ≠ 5 → ν k = μ k) ∧ (∀ i, i ≠ 0 → ν 5 i = μ 5 i) ∧ ν 5 0 = nI 1
theorem think2 (R : RR z kd P I μ) : ok2 (x1_thinks kd P I (z + 540) (z + 2)) (m_thinks μ) (fun r ν => TH z kd P I μ r.1 r.2 ν) := by
  obtain ⟨lw, cl, sk, cs, of, co, nt, p0, p1, p2, p3, L⟩ := R.bor.lws
  obtain ⟨n, hn, en⟩ := R.bor.n6
  unfold x1_thinks m_thinks
  refine ok2_l ?_
  refine ok_mono (movesX (I := I) (a := z + 540) (x := z + 2) (by omega) (fun h hh => und_door R hh)) ?_
  rintro J ⟨v1, v2, v3⟩
  simp only [nm_eq]
  have hz : z + 2 ≠ z + 540 := by omega
  rw [pk_of p0 L.ll.2.1, Option.bind_some, upP_k hz, pk_of p1 L.sl.2.1, Option.bind_some, upP_k hz, upP_k hz, pk_of p2 L.ol.2.1, Option.bind_some, upP_k hz, upP_k hz, upP_k hz, pk_of p3 L.nk, Option.bind_some, jn_eq, up2_k hz, v2 (z + 2) (by omega)]
  refine ok2_forr 115 (fun i s => s.1 = nI i ∧ (∀ q, q < i → s.2 4 q = μ 1 q) ∧ ∀ k, k ≠ 4 → s.2 k = μ k) (by decide) ?_ ⟨rfl, fun q h => by omega, fun _ _ => rfl⟩
  rintro again i ⟨_, ν⟩ hi ⟨e, n1, n2⟩ ih
  dsimp only at e n1 n2 ⊢
  subst e
  refine ok2_ir (fun c => ok2_some ?_) (fun c => ?_)
  · have := le_iff (by decide) (by omega) c
    have : i = 115 := by omega
    subst this
    generalize hQ : upP (upP (upP (upP P (z + 540) 10 (some lw)) (z + 540) 11 (some sk)) (z + 540) 12 (some of)) (z + 540) 13 (some nt) = Q
    generalize hJ : up2 (up2 J (z + 540) 14 (I (z + 2) 14)) (z + 540) 22 (I (z + 2) 22) = J2
    generalize hν : up2 ν 5 0 (nI 1) = ν2
    have qk : ∀ a, a ≠ z + 540 → Q a = P a := fun a ha => by rw [← hQ, upP_k ha, upP_k ha, upP_k ha, upP_k ha]
    have q0 : Q (z + 540) 10 = some lw := by rw [← hQ, upP_ne (by omega), upP_ne (by omega), upP_ne (by omega), upP_same]
    have q1 : Q (z + 540) 11 = some sk := by rw [← hQ, upP_ne (by omega), upP_ne (by omega), upP_same]
    have q2 : Q (z + 540) 12 = some of := by rw [← hQ, upP_ne (by omega), upP_same]
    have q3 : Q (z + 540) 13 = some nt := by rw [← hQ, upP_same]
    have jk : ∀ a, ¬ (z + 540 ≤ a ∧ a < z + 809) → J2 a = I a := fun a ha => by rw [← hJ, up2_k (by omega), up2_k (by omega), v2 a (by omega)]
    have j5 : ∀ a j, ¬ (a = z + 540 ∧ (j = 14 ∨ j = 22)) → J2 a j = J a j := fun a j h => by rw [← hJ, up2_ne (by omega), up2_ne (by omega)]
    have m4 : ∀ k, k ≠ 4 → k ≠ 5 → ν2 k = μ k := fun k h4 h5 => by rw [← hν, up2_k h5, n2 k h4]
    have m5 : ν2 5 0 = nI 1 := by rw [← hν, up2_same]
    have j23 : J2 (z + 540) 23 = I (z + 540) 23 := by rw [j5 _ _ (by omega), v3 23 (by decide)]
    have br : BR J2 (z + 540) ν2 := by
      intro k i hmi
      by_cases h5 : k = 5
      · subst h5
        have hi0 : i = 0 := by unfold mi at hmi; omega
        subst hi0
        show J2 (z + 540) 23 = _
        rw [j23, R.th, m5]
      · rw [m4 k (by unfold mi at hmi; omega) h5]
        by_cases h6 : k = 6
        · subst h6
          have hi0 : i = 0 := by unfold mi at hmi; omega
          subst hi0
          show J2 (z + 540) 14 = _
          rw [← hJ, up2_ne (by omega), up2_same]
          exact R.bor.br.houses
        · rw [j5 _ _ (fun e => ?_), v1 k i hmi h5 h6, R.bor.br k i hmi]
          have hb := xl_house (b := z + 540) hmi
          by_cases h1 : k = 1
          · subst h1
            have := xl_fld (b := z + 540) (show i < 115 by unfold mi at hmi; omega) e.1
            omega
          · have : (xl (z + 540) k i).1 ≠ z + 540 := by
              have h78 : k = 7 ∨ k = 8 := by unfold mi at hmi; omega
              rcases h78 with rfl | rfl
              · show z + 540 + 245 + 2 * i ≠ z + 540; omega
              · show z + 540 + 245 + 2 * i ≠ z + 540; omega
            exact this e.1
    have L2 : LWS z kd Q J2 ν2 lw cl sk cs of co nt := LWS.cong R.K L (fun a _ ha => ⟨jk a (by unfold IMM at ha; omega), qk a (by unfold IMM at ha; omega), rfl⟩) (fun k i _ h17 h38 => by rw [m4 k (by omega) (by omega)])
    obtain ⟨A, B, W⟩ := LWS.all R.K L2 (Or.inr (Or.inr rfl)) q0 q1 q2 q3 hn (by rw [m4 6 (by decide) (by decide)]; exact en)
    refine ⟨⟨lw, cl, sk, cs, of, co, nt, n, A, B, W, en⟩, ⟨br, fun i hi => by rw [m4 1 (by decide) (by decide)]; exact R.bor.rgs i hi, fun h5 => absurd h5 (by rw [m5]; decide), fun _ => rfl, fun _ _ => rfl, fun _ _ _ => rfl, fun _ _ _ _ _ => rfl, fun _ _ _ => rfl, ln_rfl⟩, jk, j23, qk, fun i hi => by rw [← hν, up2_k (by decide)]; exact n1 i hi, m4, fun i hi => by rw [← hν, up2_ne (Or.inr hi), n2 5 (by decide)], m5⟩
  · have hlt := nle_iff (by decide) (by omega) c
    rw [rd_eq (i := i) (by omega) (by decide), Option.bind_some, wr_eq (i := i) (by omega) (by decide), Option.bind_some, nI_add, n2 1 (by decide)]
    refine ih hlt _ ⟨rfl, fun q hq => ?_, fun k hk => by dsimp only; rw [up2_k hk]; exact n2 k hk⟩
    dsimp only
    by_cases e : q = i
    · subst e; rw [up2_same]
    · rw [up2_ne (Or.inr e)]; exact n1 q (by omega)
theorem ends2 (R : RR z kd P I μ) {Q Q' : Ptr} {J J' ν ν' : Mem} (H : TH z kd P I μ Q J ν) (S : ST (z + 540) Q J ν Q' J' ν') : ok (m_endsThought ν') (fun μ' => RR z kd Q' J' μ') := by
  obtain ⟨_, _, jk, j23, qk, m4, mk, m5, m50⟩ := H
  unfold m_endsThought
  rw [jn_eq]
  have fm : ∀ k, k ≠ 1 → k ≠ 9 → k ≠ 39 → k ≠ 40 → ν' k = ν k := S.fm
  refine ok_for 115 (fun i s => s.1 = nI i ∧ (∀ q, q < i → s.2 1 q = μ 1 q) ∧ ∀ k, k ≠ 1 → s.2 k = ν' k) (by decide) ?_ ⟨rfl, fun q h => by omega, fun _ _ => rfl⟩
  rintro again i ⟨_, ρ⟩ hi ⟨e, n1, n2⟩ ih
  dsimp only at e n1 n2 ⊢
  subst e
  refine ok_ite (fun c => ?_) (fun c => ?_)
  · have := le_iff (by decide) (by omega) c
    rw [nm_eq]
    refine ok_some ?_
    have jc : ∀ a, ¬ (z + 540 ≤ a ∧ a < z + 809) → J' a = I a := fun a ha => by rw [S.fx a (by unfold chg; omega), jk a ha]
    have qc : ∀ a, a ≠ z + 540 → Q' a = P a := fun a ha => by rw [show Q' a = Q a from funext fun j => S.fp a j (by omega), qk a ha]
    refine R.frame ⟨R.K, fun a h1 h2 => jc a (by omega), fun a h1 h2 => jc a (by omega), fun j _ => by rw [jc z (by omega)], by rw [S.fb 23 (by decide) (by decide), j23], fun a _ ha => ⟨jc a (by unfold IMM at ha; omega), qc a (by unfold IMM at ha; omega), rfl⟩, fun a ha => qc a (by omega)⟩ (fun k i hk h1 => ?_) (fun t h1 h2 h3 => by rw [jc _ (by omega)]; exact R.memo t h1 h2 h3) (by rw [up2_k (by decide), n2 69 (by decide), fm 69 (by decide) (by decide) (by decide) (by decide), mk 69 (by decide) (by decide)]; exact R.w69)
    by_cases e5 : k = 5
    · subst e5
      by_cases e0 : i = 0
      · subst e0; rw [up2_same, R.bor.t5]; rfl
      · rw [up2_ne (Or.inr e0), n2 5 (by decide), fm 5 (by decide) (by decide) (by decide) (by decide), m5 i e0]
    · rw [up2_k e5]
      by_cases e1 : k = 1
      · subst e1; exact n1 i (by have := h1 rfl; omega)
      · rw [n2 k e1]
        by_cases e9 : k = 9
        · subst e9; rw [S.b9 (by rw [m50]; decide), mk 9 (by decide) (by decide)]
        · rw [fm k e1 e9 (fun e => hk (by unfold scr; omega)) (fun e => hk (by unfold scr; omega)), mk k (fun e => hk (by unfold scr; omega)) e5]
  · have hlt := nle_iff (by decide) (by omega) c
    rw [rd_eq (i := i) (by omega) (by decide), Option.bind_some, wr_eq (i := i) (by omega) (by decide), Option.bind_some, nI_add, n2 4 (by decide), fm 4 (by decide) (by decide) (by decide) (by decide), m4 i (by omega)]
    refine ih hlt _ ⟨rfl, fun q hq => ?_, fun k hk => by dsimp only; rw [up2_k hk]; exact n2 k hk⟩
    dsimp only
    by_cases e : q = i
    · subst e; rw [up2_same]
    · rw [up2_ne (Or.inr e)]; exact n1 q (by omega)
theorem allOf2 {b n c f : Nat} {P0 Q : Ptr} {I0 μ0 J ν : Mem} (S : ST b P0 I0 μ0 Q J ν) (hn : n ≤ 12) (en : ν 6 0 = nI n) (hc : (c = 67 ∧ f = 4) ∨ (c = 79 ∧ f = 5)) : ∃ v : Nat → Int32, (∀ h, h < n → J (b + 245 + 2 * h) f = v h) ∧ m_allOf ν (nI c) = some (Nat.rec (nI 0) (fun h s => s + v h) n) := by
  refine ⟨fun h => ν 1 (c + h), fun h hh => ?_, ?_⟩
  · rcases hc with ⟨rfl, rfl⟩ | ⟨rfl, rfl⟩
    · exact S.br.icing (by omega)
    · exact S.br.lodgers (by omega)
  · unfold m_allOf
    refine eq_for n (fun i s => s = (Nat.rec (nI 0) (fun h s => s + ν 1 (c + h)) i, nI i)) (by omega) ?_ rfl
    rintro again i _ hi rfl ih
    dsimp only
    rw [en]
    by_cases cc : n ≤ i
    · rw [if_pos (nI_le cc (by omega)), show i = n by omega]
    · rw [if_neg (nI_ge (by omega) (by omega)), nI_add, nI_add, rd_eq (i := c + i) (by omega) (by decide), Option.bind_some]
      exact ih (by omega) _ rfl
theorem c_goes (R : RR z kd P I μ) (x1 x2 : Int32) : ok2 (x0_goes kd P I z x1 x2) (m_goes μ x1 x2) (fun r t => r.1 = t.1 ∧ RR z kd r.2.1 r.2.2 t.2) := by
  have R' := R.t0 (nI 0)
  unfold x0_goes m_goes
  rw [nm_eq]
  generalize hν : up2 μ 0 0 (nI 0) = ν at *
  rw [isIn_x, isIn_m, isIn_x, isIn_m, Option.bind_some, Option.bind_some, Option.bind_some, Option.bind_some]
  refine ok2_ii Iff.rfl (fun _ _ => ok2_some ⟨rfl, R'⟩) (fun c1 _ => ?_)
  obtain ⟨n, _, hn, rfl⟩ := in_nI (by decide) (by decide) (of_decide_eq_true (sd_bI c1))
  refine ok2_ii Iff.rfl (fun _ _ => ok2_some ⟨rfl, R'⟩) (fun c2 _ => ?_)
  obtain ⟨w, _, hw, rfl⟩ := in_nI (by decide) (by decide) (of_decide_eq_true (sd_bI c2))
  refine ok2_b (think2 R') ?_
  rintro ⟨Q, J⟩ ν1 H
  have H' := H
  obtain ⟨⟨lw, cl, sk, cs, of, co, nt, n', A, B, W, en⟩, S0, _⟩ := H'
  dsimp only at A B W S0 ⊢
  have T := TL_of W
  refine ok2_jj (fun j j' => ST (z + 540) Q J ν1 j.1 j.2 j') ?_ (fun k k' hk => ?_)
  · rintro ⟨Q', J'⟩ ν' S
    dsimp only at S ⊢
    have fin : ∀ v : Int32, ok2 (some (v, Q', J')) ((m_endsThought ν').bind fun r11 => some (v, r11)) (fun r t => r.1 = t.1 ∧ RR z kd r.2.1 r.2.2 t.2) := fun v => by
      obtain ⟨μ', e, R2⟩ := ends2 R' H S
      rw [e, Option.bind_some]
      exact ok2_some ⟨rfl, R2⟩
    have en' : ν' 6 0 = nI n' := A.n6 S
    have hn' := A.hn
    simp only [jn_eq]
    have : w = 0 ∨ w = 1 ∨ w = 2 ∨ w = 3 := by omega
    rcases this with rfl | rfl | rfl | rfl
    · rw [if_neg (by decide), if_pos nI_0, if_pos nI_0, rd_eq (i := 5) (by decide) (by decide), Option.bind_some, S.br.eaten]
      exact fin _
    · rw [if_neg (by decide), if_neg (by decide), if_neg (by decide), if_pos rfl, bss S.br hn' en', Option.bind_some, bits_x (ss_lt12 _ hn'), Option.bind_some, standing_m hn' en', Option.bind_some, ones_m _ (ss_lt12 _ hn'), Option.bind_some]
      exact fin _
    · obtain ⟨v, v1, v2⟩ := allOf2 S hn' en' (Or.inl ⟨rfl, rfl⟩)
      rw [if_pos (by decide), if_neg (by decide), if_neg (by decide), if_pos rfl, v2, Option.bind_some]
      refine ok2_forl n' (fun i s => s = (Nat.rec (nI 0) (fun h s => s + v h) i, nI i)) (by omega) ?_ rfl
      rintro again i _ hi rfl ih
      dsimp only
      refine ok2_il (fun c => ?_) (fun c => ?_)
      · rw [S.br.houses, en'] at c
        have := le_iff (by omega) (by omega) c
        rw [show i = n' by omega]
        exact fin _
      · rw [S.br.houses, en'] at c
        have hlt := nle_iff (by omega) (by omega) c
        rw [if_pos rfl, ix_eq (i := i) (by omega) (by decide), Option.bind_some, nI_add, show z + 785 + 2 * i = z + 540 + 245 + 2 * i by omega, v1 i hlt]
        exact ih hlt _ rfl
    · obtain ⟨v, v1, v2⟩ := allOf2 S hn' en' (Or.inr ⟨rfl, rfl⟩)
      rw [if_pos (by decide), if_neg (by decide), if_neg (by decide), if_neg (by decide), v2, Option.bind_some]
      refine ok2_forl n' (fun i s => s = (Nat.rec (nI 0) (fun h s => s + v h) i, nI i)) (by omega) ?_ rfl
      rintro again i _ hi rfl ih
      dsimp only
      refine ok2_il (fun c => ?_) (fun c => ?_)
      · rw [S.br.houses, en'] at c
        have := le_iff (by omega) (by omega) c
        rw [show i = n' by omega]
        exact fin _
      · rw [S.br.houses, en'] at c
        have hlt := nle_iff (by omega) (by omega) c
        rw [if_neg (by decide), ix_eq (i := i) (by omega) (by decide), Option.bind_some, nI_add, show z + 785 + 2 * i = z + 540 + 245 + 2 * i by omega, v1 i hlt]
        exact ih hlt _ rfl
  · refine ok2_for n (fun i s s' => s.1 = nI i ∧ s'.1 = nI i ∧ ST (z + 540) Q J ν1 s.2.1 s.2.2 s'.2) (by omega) ?_ ⟨rfl, rfl, S0⟩
    rintro again again' i ⟨_, Q', J'⟩ ⟨_, ν'⟩ hi ⟨e1, e2, S⟩ ih
    dsimp only at e1 e2 S ⊢
    subst e1 e2
    refine ok2_ii Iff.rfl (fun _ _ => hk _ _ S) (fun c _ => ?_)
    have hlt := nle_iff (by omega) (by omega) c
    refine ok2_b (passes2 A B T S) ?_
    rintro ⟨v, P4, I4⟩ ⟨v', ν4⟩ ⟨ev, S4⟩
    rw [nI_add]
    exact ih hlt _ _ ⟨rfl, rfl, S4⟩
theorem c_stands (R : RR z kd P I μ) (x : Int32) : ok2 (x0_stands kd P I z x) (m_stands μ x) (fun r t => r.1 = t.1 ∧ RR z kd r.2.1 r.2.2 t.2) := by
  have R' := R.t0 (nI 0)
  unfold x0_stands m_stands
  rw [nm_eq]
  generalize hν : up2 μ 0 0 (nI 0) = ν at *
  obtain ⟨n, hn, en⟩ := R'.bor.n6
  have eh : I (z + 2) 14 = nI n := by rw [R'.bor.br.houses, en]
  rcases isHouse2 hn eh en x with ⟨h, hh, rfl, q1, q2⟩ | ⟨q1, q2⟩
  · rw [q1, q2, Option.bind_some, Option.bind_some, if_neg bT, if_neg bT]
    refine ok2_b (think2 R') ?_
    rintro ⟨Q, J⟩ ν1 H
    have H' := H
    obtain ⟨⟨lw, cl, sk, cs, of, co, nt, n', A, B, W, en2⟩, S0, _⟩ := H'
    dsimp only at A B W S0 ⊢
    have T := TL_of W
    have h12 : h < 12 := by omega
    refine ok2_jr ?_
    refine ok2_for 201 (fun i s s' => s.1 = nI i ∧ s'.1 = nI i ∧ ST (z + 540) Q J ν1 s.2.1 s.2.2 s'.2) (by omega) ?_ ⟨rfl, rfl, S0⟩
    rintro again again' i ⟨_, Q', J'⟩ ⟨_, ν'⟩ hi ⟨e1, e2, S⟩ ih
    dsimp only at e1 e2 S ⊢
    subst e1 e2
    obtain ⟨μ', e, R2⟩ := ends2 R' H S
    rw [ix_eq (i := h) h12 (by decide), Option.bind_some, show z + 785 + 2 * h = z + 540 + 245 + 2 * h by omega, bsd S.br h12, Option.bind_some, stand_m ν' h12, Option.bind_some, e, Option.bind_some]
    by_cases c200 : 200 < i
    · rw [if_pos (nI_lt c200 (by omega)), if_pos (nI_lt c200 (by omega)), if_neg (nI_ge c200 (by omega))]
      exact ok2_ir (fun _ => ok2_some ⟨rfl, R2⟩) (fun _ => ok2_some ⟨rfl, R2⟩)
    · rw [if_neg (nI_nlt (by omega) (by omega)), if_neg (nI_nlt (by omega) (by omega)), if_pos (nI_le (by omega) (by decide))]
      refine ok2_ii Iff.rfl (fun _ _ => ok2_some ⟨rfl, R2⟩) (fun _ _ => ?_)
      refine ok2_b (passes2 A B T S) ?_
      rintro ⟨v, P4, I4⟩ ⟨v', ν4⟩ ⟨ev, S4⟩
      rw [nI_add]
      exact ih (by omega) _ _ ⟨rfl, rfl, S4⟩
  · rw [q1, q2, Option.bind_some, Option.bind_some, if_pos bF, if_pos bF]
    exact ok2_some ⟨rfl, R'⟩
end THOU
