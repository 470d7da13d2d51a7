/-! ===== the image: x's boroughs ===== -/
section IMAG
variable {z : Nat} {kd : Kd} {P : Ptr} {I I' μ ν : Mem}
theorem rowsX {a x len c : Nat} (hd : a + 2 + len ≤ x ∨ x + 2 + len ≤ a) (hl : len ≤ 100) (hc : c ≤ len) (e : I x 1 = nI c) : ok (x2_takes I a len x len) (fun J => J a 1 = nI c ∧ (∀ i, i < c → ∀ k, k < 2 → J (a + 2 + i) k = I (x + 2 + i) k) ∧ ∀ q, ¬ (a ≤ q ∧ q < a + 2 + len) → J q = I q) := by
  unfold x2_takes
  rw [nm_eq, e]
  refine ok_for c (fun i s => s.1 = nI i ∧ s.2 a 1 = nI c ∧ (∀ j, j < i → ∀ k, k < 2 → s.2 (a + 2 + j) k = I (x + 2 + j) k) ∧ ∀ q, ¬ (a ≤ q ∧ q < a + 2 + len) → s.2 q = I q) (by omega) ?_ ⟨rfl, by dsimp only; rw [up2_same], fun j h => by omega, fun q hq => by dsimp only; rw [up2_k (by omega)]⟩
  rintro again i ⟨_, J⟩ hi ⟨e1, g0, g1, g2⟩ ih
  dsimp only at e1 g0 g1 g2 ⊢
  subst e1
  refine ok_ite (fun cc => ok_some ?_) (fun cc => ?_)
  · rw [g0] at cc
    have := le_iff (by omega) (by omega) cc
    exact ⟨g0, fun j hj => g1 j (by omega), g2⟩
  · rw [g0] at cc
    have hlt := nle_iff (by omega) (by omega) cc
    refine ok_for 2 (fun w s => s.1 = nI w ∧ s.2 a 1 = nI c ∧ (∀ j, j < i → ∀ k, k < 2 → s.2 (a + 2 + j) k = I (x + 2 + j) k) ∧ (∀ k, k < w → s.2 (a + 2 + i) k = I (x + 2 + i) k) ∧ ∀ q, ¬ (a ≤ q ∧ q < a + 2 + len) → s.2 q = I q) (by decide) ?_ ⟨rfl, g0, g1, fun k h => by omega, g2⟩
    clear g0 g1 g2
    rintro ag w ⟨_, J⟩ hw ⟨e1, g0, g1, g3, g2⟩ ih2
    dsimp only at e1 g0 g1 g3 g2 ⊢
    subst e1
    refine ok_ite (fun c2 => ?_) (fun c2 => ?_)
    · have := le_iff (by omega) (by omega) c2
      rw [nI_add]
      refine ih hlt _ ⟨rfl, g0, fun j hj k hk => ?_, g2⟩
      dsimp only
      by_cases ej : j = i
      · subst ej; exact g3 k (by omega)
      · exact g1 j (by omega) k hk
    · have hw2 := nle_iff (by omega) (by omega) c2
      rw [ix_eq (i := i) (by omega) (by omega), Option.bind_some, Option.bind_some, rd_eq (i := w) (by omega) (by decide), Option.bind_some, wr_eq (i := w) (by omega) (by decide), Option.bind_some, nI_add, g2 (x + 2 + i) (by omega)]
      refine ih2 hw2 _ ⟨rfl, by dsimp only; rw [up2_k (by omega)]; exact g0, fun j hj k hk => by dsimp only; rw [up2_k (by omega)]; exact g1 j hj k hk, fun k hk => ?_, fun q hq => by dsimp only; rw [up2_k (by omega)]; exact g2 q hq⟩
      dsimp only
      by_cases ek : k = w
      · subst ek; rw [up2_same]
      · rw [up2_ne (Or.inr ek)]; exact g3 k (by omega)
theorem R1.mv {J : Mem} {a x len km k1 lo hi c : Nat} (R : R1 I ν x len km k1 lo hi) (hc : I x 1 = nI c) (hcl : c ≤ len) (hl : len ≤ 100) (h0 : J a 1 = nI c) (h : ∀ i, i < c → ∀ k, k < 2 → J (a + 2 + i) k = I (x + 2 + i) k) : R1 J ν a len km k1 lo hi := by
  obtain ⟨c', hc', e1, e2, q⟩ := R
  rw [hc, nI_eq (by omega) (by omega)] at e1
  subst e1
  exact ⟨c, hcl, h0, e2, fun i hi => by rw [h i hi 0 (by decide)]; exact q i hi⟩
theorem R2.mv {J : Mem} {a x len km k1 k2 lo hi lo2 hi2 c : Nat} (R : R2 I ν x len km k1 k2 lo hi lo2 hi2) (hc : I x 1 = nI c) (hcl : c ≤ len) (hl : len ≤ 100) (h0 : J a 1 = nI c) (h : ∀ i, i < c → ∀ k, k < 2 → J (a + 2 + i) k = I (x + 2 + i) k) : R2 J ν a len km k1 k2 lo hi lo2 hi2 := by
  obtain ⟨c', hc', e1, e2, q⟩ := R
  rw [hc, nI_eq (by omega) (by omega)] at e1
  subst e1
  exact ⟨c, hcl, h0, e2, fun i hi => by rw [h i hi 0 (by decide), h i hi 1 (by decide)]; exact q i hi⟩
theorem RH.mv {J : Mem} {a x c : Nat} (R : RH I ν x) (hc : I x 1 = nI c) (hcl : c ≤ 12) (h0 : J a 1 = nI c) (h : ∀ i, i < c → ∀ k, k < 2 → J (a + 2 + i) k = I (x + 2 + i) k) : RH J ν a := by
  obtain ⟨c', hc', e1, e2, q, q'⟩ := R
  rw [hc, nI_eq (by omega) (by omega)] at e1
  subst e1
  refine ⟨c, hcl, h0, e2, fun i hi => by rw [h i hi 0 (by decide), h i hi 1 (by decide)]; exact q i hi, fun p hp => ?_⟩
  rcases q' p hp with ⟨a1, a2⟩ | ⟨i, s, hi, hs, a1, a2, a3, a4⟩
  · exact Or.inl ⟨a1, fun i hi => by rw [h i hi 0 (by decide)]; exact a2 i hi⟩
  · exact Or.inr ⟨i, s, hi, hs, by rw [h i hi 0 (by decide)]; exact a1, fun j hj => by rw [h j (by omega) 0 (by decide)]; exact a2 j hj, by rw [h i hi 1 (by decide)]; exact a3, a4⟩
theorem R1.cnt {a len km k1 lo hi : Nat} (R : R1 I ν a len km k1 lo hi) : ∃ c, c ≤ len ∧ I a 1 = nI c := by obtain ⟨c, h, e, _⟩ := R; exact ⟨c, h, e⟩
theorem R2.cnt {a len km k1 k2 lo hi lo2 hi2 : Nat} (R : R2 I ν a len km k1 k2 lo hi lo2 hi2) : ∃ c, c ≤ len ∧ I a 1 = nI c := by obtain ⟨c, h, e, _⟩ := R; exact ⟨c, h, e⟩
theorem RH.cnt {a : Nat} (R : RH I ν a) : ∃ c, c ≤ 12 ∧ I a 1 = nI c := by obtain ⟨c, h, e, _⟩ := R; exact ⟨c, h, e⟩
/-- a borough taken whole -/
theorem takesX (K : KI z kd) {a x : Nat} (hax : (a = z + 2 ∧ x = z + 271) ∨ (a = z + 271 ∧ x = z + 2)) (B : BOR z x kd P I ν) (ha : I a 23 = nI 0) : ok (x1_takes kd P I a x) (fun r => BOR z a kd r.1 r.2 ν ∧ (∀ q, ¬ (a ≤ q ∧ q < a + 269) → r.2 q = I q) ∧ (∀ q, a + 241 ≤ q → q < a + 245 → r.2 q = I q) ∧ r.2 a 23 = nI 0 ∧ ∀ q, q ≠ a → r.1 q = P q) := by
  obtain ⟨lw, cl, sk, cs, of, co, nt, p0, p1, p2, p3, L⟩ := B.lws
  obtain ⟨l, hl, el⟩ := B.st.lines
  have hdis : a + 269 ≤ x ∨ x + 269 ≤ a := by omega
  have hxa : x ≠ a := by omega
  unfold x1_takes x1_thinks
  have doors : ∀ h, h < 12 → I (x + 245 + 2 * h) 7 = nI 0 ∨ I (x + 245 + 2 * h) 7 = nI 1 := fun h hh => by
    rw [B.br.door hh]; exact (B.rgs (91 + h) (by omega)).2.1 (by omega) (by omega)
  rw [Option.bind_assoc]
  refine ok_bind' (movesX (I := I) (a := a) (x := x) hdis doors) ?_
  rintro J ⟨v1, v2, v3⟩
  simp only [nm_eq]
  rw [pk_of p0 L.ll.2.1, Option.bind_some, upP_k hxa, pk_of p1 L.sl.2.1, Option.bind_some, upP_k hxa, upP_k hxa, pk_of p2 L.ol.2.1, Option.bind_some, upP_k hxa, upP_k hxa, upP_k hxa, pk_of p3 L.nk, Option.bind_some, Option.bind_some, up2_k hxa, v2 x (by omega), jn_eq]
  generalize hQ : upP (upP (upP (upP P a 10 (some lw)) a 11 (some sk)) a 12 (some of)) a 13 (some nt) = Q
  generalize hJ : up2 (up2 J a 14 (I x 14)) a 22 (I x 22) = J0
  dsimp only
  have qk : ∀ q, q ≠ a → Q q = P q := fun q hq => by rw [← hQ, upP_k hq, upP_k hq, upP_k hq, upP_k hq]
  have q0 : Q a 10 = some lw := by rw [← hQ, upP_ne (by omega), upP_ne (by omega), upP_ne (by omega), upP_same]
  have q1 : Q a 11 = some sk := by rw [← hQ, upP_ne (by omega), upP_ne (by omega), upP_same]
  have q2 : Q a 12 = some of := by rw [← hQ, upP_ne (by omega), upP_same]
  have q3 : Q a 13 = some nt := by rw [← hQ, upP_same]
  have jk : ∀ q, ¬ (q = a ∨ (a + 245 ≤ q ∧ q < a + 269)) → J0 q = I q := fun q hq => by rw [← hJ, up2_k (by omega), up2_k (by omega), v2 q hq]
  have j5 : ∀ q j, ¬ (q = a ∧ (j = 14 ∨ j = 22)) → J0 q j = J q j := fun q j h => by rw [← hJ, up2_ne (by omega), up2_ne (by omega)]
  have a23 : J0 a 23 = nI 0 := by rw [j5 _ _ (by omega), v3 23 (by decide), ha]
  have a22 : J0 a 22 = I x 22 := by rw [← hJ, up2_same]
  have br0 : BR J0 a ν := by
    intro k i hmi
    by_cases h5 : k = 5
    · subst h5
      have hi0 : i = 0 := by unfold mi at hmi; omega
      subst hi0
      show J0 a 23 = _
      rw [a23, B.t5]; rfl
    · by_cases h6 : k = 6
      · subst h6
        have hi0 : i = 0 := by unfold mi at hmi; omega
        subst hi0
        show J0 a 14 = _
        rw [← hJ, up2_ne (by omega), up2_same]
        exact B.br.houses
      · rw [j5 _ _ (fun e => ?_), v1 k i hmi h5 h6, B.br k i hmi]
        by_cases h1 : k = 1
        · subst h1
          have := xl_fld (b := a) (show i < 115 by unfold mi at hmi; omega) e.1
          omega
        · have : (xl a k i).1 ≠ a := by
            have h78 : k = 7 ∨ k = 8 := by unfold mi at hmi; omega
            rcases h78 with rfl | rfl
            · show a + 245 + 2 * i ≠ a; omega
            · show a + 245 + 2 * i ≠ a; omega
          exact this e.1
  have a21 : J0 a 21 = nI l := by rw [br0.lines, el]
  -- the book
  refine ok_for l (fun i s => s.1 = nI i ∧ s.2 a = J0 a ∧ (∀ j, j < i → ∀ k, k < 4 → s.2 (a + 3 + j) k = I (x + 3 + j) k) ∧ ∀ q, ¬ (a + 3 ≤ q ∧ q < a + 153) → s.2 q = J0 q) (by omega) ?_ ⟨rfl, rfl, fun j h => by omega, fun _ _ => rfl⟩
  rintro again i ⟨_, J1⟩ hi ⟨e1, g0, g1, g2⟩ ih
  dsimp only at e1 g0 g1 g2 ⊢
  subst e1
  refine ok_ite (fun cc => ?_) (fun cc => ?_)
  · rw [g0, a21] at cc
    have := le_iff (by omega) (by omega) cc
    have g1 : ∀ j, j < l → ∀ k, k < 4 → J1 (a + 3 + j) k = I (x + 3 + j) k := fun j hj => g1 j (by omega)
    -- the rows
    have src : ∀ q, x ≤ q → q < x + 269 → J1 q = I q := fun q h1 h2 => by rw [g2 q (by omega), jk q (by omega)]
    obtain ⟨c1, hc1, ec1⟩ := B.pieces.cnt
    obtain ⟨c2, hc2, ec2⟩ := B.doughs.cnt
    obtain ⟨c3, hc3, ec3⟩ := B.marks.cnt
    obtain ⟨c4, hc4, ec4⟩ := B.bites.cnt
    obtain ⟨c5, hc5, ec5⟩ := B.crumbs.cnt
    obtain ⟨c6, hc6, ec6⟩ := B.loaves.cnt
    obtain ⟨c7, hc7, ec7⟩ := B.heirs.cnt
    obtain ⟨c8, hc8, ec8⟩ := B.members.cnt
    refine ok_bind' (rowsX (I := J1) (a := a + 153) (x := x + 153) (len := 9) (by omega) (by decide) hc1 (by rw [src _ (by omega) (by omega)]; exact ec1)) ?_
    rintro J2 ⟨a2, b2, f2⟩
    refine ok_bind' (rowsX (I := J2) (a := a + 164) (x := x + 164) (len := 8) (by omega) (by decide) hc2 (by rw [f2 _ (by omega), src _ (by omega) (by omega)]; exact ec2)) ?_
    rintro J3 ⟨a3, b3, f3⟩
    refine ok_bind' (rowsX (I := J3) (a := a + 174) (x := x + 174) (len := 5) (by omega) (by decide) hc3 (by rw [f3 _ (by omega), f2 _ (by omega), src _ (by omega) (by omega)]; exact ec3)) ?_
    rintro J4 ⟨a4, b4, f4⟩
    refine ok_bind' (rowsX (I := J4) (a := a + 181) (x := x + 181) (len := 8) (by omega) (by decide) hc4 (by rw [f4 _ (by omega), f3 _ (by omega), f2 _ (by omega), src _ (by omega) (by omega)]; exact ec4)) ?_
    rintro J5 ⟨a5, b5, f5⟩
    refine ok_bind' (rowsX (I := J5) (a := a + 191) (x := x + 191) (len := 16) (by omega) (by decide) hc5 (by rw [f5 _ (by omega), f4 _ (by omega), f3 _ (by omega), f2 _ (by omega), src _ (by omega) (by omega)]; exact ec5)) ?_
    rintro J6 ⟨a6, b6, f6⟩
    refine ok_bind' (rowsX (I := J6) (a := a + 209) (x := x + 209) (len := 6) (by omega) (by decide) hc6 (by rw [f6 _ (by omega), f5 _ (by omega), f4 _ (by omega), f3 _ (by omega), f2 _ (by omega), src _ (by omega) (by omega)]; exact ec6)) ?_
    rintro J7 ⟨a7, b7, f7⟩
    refine ok_bind' (rowsX (I := J7) (a := a + 217) (x := x + 217) (len := 12) (by omega) (by decide) hc7 (by rw [f7 _ (by omega), f6 _ (by omega), f5 _ (by omega), f4 _ (by omega), f3 _ (by omega), f2 _ (by omega), src _ (by omega) (by omega)]; exact ec7)) ?_
    rintro J8 ⟨a8, b8, f8⟩
    refine ok_bind' (rowsX (I := J8) (a := a + 231) (x := x + 231) (len := 8) (by omega) (by decide) hc8 (by rw [f8 _ (by omega), f7 _ (by omega), f6 _ (by omega), f5 _ (by omega), f4 _ (by omega), f3 _ (by omega), f2 _ (by omega), src _ (by omega) (by omega)]; exact ec8)) ?_
    rintro J9 ⟨a9, b9, f9⟩
    have all : ∀ q, ¬ (a + 153 ≤ q ∧ q < a + 241) → J9 q = J1 q := fun q hq => by rw [f9 q (by omega), f8 q (by omega), f7 q (by omega), f6 q (by omega), f5 q (by omega), f4 q (by omega), f3 q (by omega), f2 q (by omega)]
    have fr : ∀ q, ¬ (q = a ∨ (a + 3 ≤ q ∧ q < a + 241) ∨ (a + 245 ≤ q ∧ q < a + 269)) → J9 q = I q := fun q hq => by rw [all q (by omega), g2 q (by omega), jk q (by omega)]
    have ra : J9 a = J0 a := by rw [all a (by omega), g0]
    refine ok_some ⟨⟨fun k i hm => ?_, B.rgs, fun l' hl' e i k hi hk => ?_, B.t5, B.n6, by rw [ra, a22]; exact B.nl, ⟨lw, cl, sk, cs, of, co, nt, q0, q1, q2, q3, LWS.cong K L (fun q _ hq => ⟨fr q ?_, qk q ?_, rfl⟩) (fun _ _ _ _ _ => rfl)⟩, ?_, ?_, ?_, ?_, ?_, ?_, ?_, ?_⟩, fun q hq => fr q (by omega), fun q h1 h2 => fr q (by omega), by rw [ra]; exact a23, qk⟩
    · have hb := xl_house (b := a) hm
      rw [all _ (by omega)]
      by_cases e : (xl a k i).1 = a
      · rw [e, g0, ← e]; exact br0 k i hm
      · rw [g2 _ (by omega)]; exact br0 k i hm
    · rw [el, nI_eq (by omega) (by omega)] at e
      rw [all _ (by omega), g1 i (by omega) k hk]
      exact B.bk l hl el i k (by omega) hk
    · unfold IMM at hq; omega
    · unfold IMM at hq; omega
    · refine R1.mv B.pieces ec1 hc1 (by decide) (by rw [f9 _ (by omega), f8 _ (by omega), f7 _ (by omega), f6 _ (by omega), f5 _ (by omega), f4 _ (by omega), f3 _ (by omega)]; exact a2) (fun i hi k hk => ?_)
      rw [f9 _ (by omega), f8 _ (by omega), f7 _ (by omega), f6 _ (by omega), f5 _ (by omega), f4 _ (by omega), f3 _ (by omega), b2 i hi k hk, src _ (by omega) (by omega)]
    · refine R1.mv B.doughs ec2 hc2 (by decide) (by rw [f9 _ (by omega), f8 _ (by omega), f7 _ (by omega), f6 _ (by omega), f5 _ (by omega), f4 _ (by omega)]; exact a3) (fun i hi k hk => ?_)
      rw [f9 _ (by omega), f8 _ (by omega), f7 _ (by omega), f6 _ (by omega), f5 _ (by omega), f4 _ (by omega), b3 i hi k hk, f2 _ (by omega), src _ (by omega) (by omega)]
    · refine R1.mv B.marks ec3 hc3 (by decide) (by rw [f9 _ (by omega), f8 _ (by omega), f7 _ (by omega), f6 _ (by omega), f5 _ (by omega)]; exact a4) (fun i hi k hk => ?_)
      rw [f9 _ (by omega), f8 _ (by omega), f7 _ (by omega), f6 _ (by omega), f5 _ (by omega), b4 i hi k hk, f3 _ (by omega), f2 _ (by omega), src _ (by omega) (by omega)]
    · refine R2.mv B.bites ec4 hc4 (by decide) (by rw [f9 _ (by omega), f8 _ (by omega), f7 _ (by omega), f6 _ (by omega)]; exact a5) (fun i hi k hk => ?_)
      rw [f9 _ (by omega), f8 _ (by omega), f7 _ (by omega), f6 _ (by omega), b5 i hi k hk, f4 _ (by omega), f3 _ (by omega), f2 _ (by omega), src _ (by omega) (by omega)]
    · refine R1.mv B.crumbs ec5 hc5 (by decide) (by rw [f9 _ (by omega), f8 _ (by omega), f7 _ (by omega)]; exact a6) (fun i hi k hk => ?_)
      rw [f9 _ (by omega), f8 _ (by omega), f7 _ (by omega), b6 i hi k hk, f5 _ (by omega), f4 _ (by omega), f3 _ (by omega), f2 _ (by omega), src _ (by omega) (by omega)]
    · refine R2.mv B.loaves ec6 hc6 (by decide) (by rw [f9 _ (by omega), f8 _ (by omega)]; exact a7) (fun i hi k hk => ?_)
      rw [f9 _ (by omega), f8 _ (by omega), b7 i hi k hk, f6 _ (by omega), f5 _ (by omega), f4 _ (by omega), f3 _ (by omega), f2 _ (by omega), src _ (by omega) (by omega)]
    · refine RH.mv B.heirs ec7 hc7 (by rw [f9 _ (by omega)]; exact a8) (fun i hi k hk => ?_)
      rw [f9 _ (by omega), b8 i hi k hk, f7 _ (by omega), f6 _ (by omega), f5 _ (by omega), f4 _ (by omega), f3 _ (by omega), f2 _ (by omega), src _ (by omega) (by omega)]
    · refine R2.mv B.members ec8 hc8 (by decide) a9 (fun i hi k hk => ?_)
      rw [b9 i hi k hk, f8 _ (by omega), f7 _ (by omega), f6 _ (by omega), f5 _ (by omega), f4 _ (by omega), f3 _ (by omega), f2 _ (by omega), src _ (by omega) (by omega)]
  · rw [g0, a21] at cc
    have hlt := nle_iff (by omega) (by omega) cc
    refine ok_for 4 (fun w s => s.1 = nI w ∧ s.2 a = J0 a ∧ (∀ j, j < i → ∀ k, k < 4 → s.2 (a + 3 + j) k = I (x + 3 + j) k) ∧ (∀ k, k < w → s.2 (a + 3 + i) k = I (x + 3 + i) k) ∧ ∀ q, ¬ (a + 3 ≤ q ∧ q < a + 153) → s.2 q = J0 q) (by decide) ?_ ⟨rfl, g0, g1, fun k h => by omega, g2⟩
    clear g0 g1 g2
    rintro ag w ⟨_, J1⟩ hw ⟨e1, g0, g1, g3, g2⟩ ih2
    dsimp only at e1 g0 g1 g3 g2 ⊢
    subst e1
    refine ok_ite (fun c2 => ?_) (fun c2 => ?_)
    · have := le_iff (by omega) (by omega) c2
      rw [nI_add]
      refine ih hlt _ ⟨rfl, g0, fun j hj k hk => ?_, g2⟩
      dsimp only
      by_cases ej : j = i
      · subst ej; exact g3 k (by omega)
      · exact g1 j (by omega) k hk
    · have hw2 := nle_iff (by omega) (by omega) c2
      rw [ix_eq (i := i) (by omega) (by decide), Option.bind_some, Option.bind_some, rd_eq (i := w) (by omega) (by decide), Option.bind_some, wr_eq (i := w) (by omega) (by decide), Option.bind_some, nI_add, g2 (x + 3 + i) (by omega), jk (x + 3 + i) (by omega)]
      refine ih2 hw2 _ ⟨rfl, by dsimp only; rw [up2_k (by omega)]; exact g0, fun j hj k hk => by dsimp only; rw [up2_k (by omega)]; exact g1 j hj k hk, fun k hk => ?_, fun q hq => by dsimp only; rw [up2_k (by omega)]; exact g2 q hq⟩
      dsimp only
      by_cases ek : k = w
      · subst ek; rw [up2_same]
      · rw [up2_ne (Or.inr ek)]; exact g3 k (by omega)
end IMAG
