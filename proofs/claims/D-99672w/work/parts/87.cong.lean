/-! ===== what does not touch a borough leaves it ===== -/
theorem xl_n25 {b k i : Nat} (hm : mi k i) : xl b k i ≠ (b, 25) := by
  intro e
  rcases mi_cases hm with ⟨rfl, h⟩ | ⟨h, w, hh, hw, rfl, rfl⟩ | ⟨h, hh, rfl, rfl⟩ | ⟨h, hh, rfl, rfl⟩ | ⟨h, hh, rfl, rfl⟩ | ⟨h, hh, rfl, rfl⟩ | ⟨h, hh, rfl, rfl⟩ | ⟨rfl, h⟩ | ⟨rfl, h⟩ | ⟨rfl, rfl⟩ | ⟨rfl, rfl⟩
  · have := xl_fld (b := b) (show i < 115 by omega)
    rw [e] at this
    have := this rfl
    dsimp only at this
    omega
  · rw [xl_wall hh hw, Prod.mk.injEq] at e; omega
  · rw [xl_hard hh, Prod.mk.injEq] at e; omega
  · rw [xl_icing hh, Prod.mk.injEq] at e; omega
  · rw [xl_lodgers hh, Prod.mk.injEq] at e; omega
  · rw [xl_door hh, Prod.mk.injEq] at e; omega
  · rw [xl_age hh, Prod.mk.injEq] at e; omega
  · have e : (b + 245 + 2 * i, 1) = (b, 25) := e; rw [Prod.mk.injEq] at e; omega
  · have e : (b + 245 + 2 * i, 2) = (b, 25) := e; rw [Prod.mk.injEq] at e; omega
  · have e : (b, 14) = (b, 25) := e; rw [Prod.mk.injEq] at e; omega
  · have e : (b, 23) = (b, 25) := e; rw [Prod.mk.injEq] at e; omega
theorem mi_rki {k i : Nat} (h : mi k i) : rki k i := by
  unfold mi at h
  rcases h with ⟨rfl, h⟩ | ⟨rfl, h⟩ | ⟨rfl, h⟩ | ⟨rfl, rfl⟩ | ⟨rfl, rfl⟩
  · exact h
  · exact h
  · exact h
  · exact Nat.zero_lt_one
  · exact Nat.zero_lt_one
theorem rki_n39 {k i : Nat} (h : rki k i) : k ≠ 39 ∧ k ≠ 40 := by
  constructor <;> (rintro rfl; exact absurd h (Nat.not_lt_zero _))
section CONG
variable {z b : Nat} {kd kd' : Kd} {P P0 P' : Ptr} {I I0 I' ν ν' μ μ0 : Mem}
theorem TM_lt : ∀ {d t a c : Nat}, TM kd P I ν d t a c → a < c
  | 0, _, _, _, h => absurd h (by unfold TM; exact id)
  | d + 1, t, a, c, h => by
    unfold TM at h
    rcases h with ⟨_, rfl, _⟩ | ⟨_, rfl, _⟩ | ⟨_, l, r, m, e, _, _, _, _, rfl, e2, e3, _⟩ <;> omega
theorem TB_lt : ∀ {d t a c : Nat}, TB kd P I ν d t a c → a < c
  | 0, _, _, _, h => absurd h (by unfold TB; exact id)
  | d + 1, t, a, c, h => by
    unfold TB at h
    rcases h with ⟨_, l, r, m, e, _, _, rfl, e2, e3, _⟩ | ⟨_, l, e, _, _, rfl, e2, _⟩ <;> omega
theorem R1.cong {a len km k1 lo hi : Nat} (h : R1 I ν a len km k1 lo hi) (hI : ∀ c, a ≤ c → c < a + 2 + len → I' c = I c) (hm : ν' km 0 = ν km 0) (h1 : ∀ i, i < len → ν' k1 i = ν k1 i) : R1 I' ν' a len km k1 lo hi := by
  obtain ⟨c, hc, e1, e2, h⟩ := h
  refine ⟨c, hc, by rw [hI a (by omega) (by omega)]; exact e1, by rw [hm]; exact e2, fun i hi => ?_⟩
  rw [hI _ (by omega) (by omega), h1 i (by omega)]
  exact h i hi
theorem R2.cong {a len km k1 k2 lo hi lo2 hi2 : Nat} (h : R2 I ν a len km k1 k2 lo hi lo2 hi2) (hI : ∀ c, a ≤ c → c < a + 2 + len → I' c = I c) (hm : ν' km 0 = ν km 0) (h1 : ∀ i, i < len → ν' k1 i = ν k1 i) (h2 : ∀ i, i < len → ν' k2 i = ν k2 i) : R2 I' ν' a len km k1 k2 lo hi lo2 hi2 := by
  obtain ⟨c, hc, e1, e2, h⟩ := h
  refine ⟨c, hc, by rw [hI a (by omega) (by omega)]; exact e1, by rw [hm]; exact e2, fun i hi => ?_⟩
  rw [hI _ (by omega) (by omega), h1 i (by omega), h2 i (by omega)]
  exact h i hi
theorem RH.cong {a : Nat} (h : RH I ν a) (hI : ∀ c, a ≤ c → c < a + 14 → I' c = I c) (hm : ν' 62 0 = ν 62 0) (h1 : ∀ i, i < 12 → ν' 63 i = ν 63 i) : RH I' ν' a := by
  obtain ⟨c, hc, e1, e2, h, h'⟩ := h
  refine ⟨c, hc, by rw [hI a (by omega) (by omega)]; exact e1, by rw [hm]; exact e2, fun i hi => ?_, fun p hp => ?_⟩
  · rw [hI _ (by omega) (by omega)]
    exact h i hi
  · rw [h1 p hp]
    rcases h' p hp with ⟨q1, q2⟩ | ⟨i, q, hi, hq, q1, q2, q3, q4⟩
    · exact Or.inl ⟨q1, fun i hi => by rw [hI _ (by omega) (by omega)]; exact q2 i hi⟩
    · exact Or.inr ⟨i, q, hi, hq, by rw [hI _ (by omega) (by omega)]; exact q1, fun j hj => by rw [hI _ (by omega) (by omega)]; exact q2 j hj, by rw [hI _ (by omega) (by omega)]; exact q3, q4⟩
/-- cells that are there stay -/
def KEEP (z : Nat) (kd kd' : Kd) (P P' : Ptr) (I I' : Mem) : Prop := ∀ a, (kd a).1 < 90 → IMM z a → I' a = I a ∧ P' a = P a ∧ kd' a = kd a
theorem LWS.cong {lw cl sk cs of co nt : Nat} (K : KI z kd) (L : LWS z kd P I ν lw cl sk cs of co nt) (hM : KEEP z kd kd' P P' I I') (hν : ∀ k i, rki k i → 17 ≤ k → k ≤ 38 → ν' k i = ν k i) : LWS z kd' P' I' ν' lw cl sk cs of co nt := by
  have li : ∀ {ls c : Nat} {E E' : Nat → Nat → Prop}, LSI z kd P I ls c E → (∀ i e, i < 16 → E i e → E' i e) → LSI z kd' P' I' ls c E' := by
    intro ls c E E' L hE
    obtain ⟨h1, h2, h3, h4, h5⟩ := L
    have hls := hM ls (by rw [h2]; decide) h1
    refine ⟨h1, by rw [hls.2.2]; exact h2, by rw [hls.1]; exact h3, h4, fun i hi => ?_⟩
    obtain ⟨ar, e, a0, a1, a2, a3, a4, a5, a6⟩ := h5 i hi
    have har := hM ar (by rw [a2]; decide) a0
    exact ⟨ar, e, a0, by rw [hls.2.1]; exact a1, by rw [har.2.2]; exact a2, by rw [har.2.2]; exact a3, by rw [har.2.2]; exact a4, by rw [har.2.1]; exact a5, hE i e (by omega) a6⟩
  have tm : ∀ t, (kd t = (7, 0, 0) ∨ kd t = (8, 0, 0) ∨ kd t = (9, 0, 0) ∨ kd t = (10, 0, 0)) → I' t = I t ∧ P' t = P t ∧ kd' t = kd t := fun t ht => hM t (by
    rcases ht with e | e | e | e <;> rw [e] <;> decide) (Or.inr (Or.inr (by
    rcases ht with e | e | e | e <;> exact K.kt t (by rw [e]; decide) (by rw [e]; decide))))
  have h22 : ∀ i, i < 400 → ν' 22 i = ν 22 i ∧ ν' 23 i = ν 23 i := fun i hi => ⟨hν 22 i (show _ < 400 by omega) (by decide) (by decide), hν 23 i (show _ < 400 by omega) (by decide) (by decide)⟩
  have hnt := hM nt (by rw [L.nk]; decide) L.ni
  refine ⟨li L.ll (fun i e hi h => ?_), by rw [hν 17 0 (show _ < 1 by omega) (by decide) (by decide)]; exact L.lm, li L.sl (fun i e hi h => ?_), by rw [hν 33 0 (show _ < 1 by omega) (by decide) (by decide)]; exact L.sm, li L.ol (fun i e hi h => ?_), by rw [hν 35 0 (show _ < 1 by omega) (by decide) (by decide)]; exact L.om, L.ni, by rw [hnt.2.2]; exact L.nk, fun h hh => by rw [hnt.1, hν 38 h (show _ < 12 by omega) (by decide) (by decide)]; exact L.ne h hh, fun h hh => by rw [hν 38 h (show _ < 12 by omega) (by decide) (by decide)]; exact L.nr h hh⟩
  · obtain ⟨h1, h2, ⟨q, hq, h3, h4⟩, a, c, hc, h5, h6, ⟨t, ht, Tt⟩, h7⟩ := h
    have he := hM e (by rw [h1]; decide) h2
    refine ⟨by rw [he.2.2]; exact h1, h2, ⟨q, hq, by rw [he.1]; exact h3, by rw [hν 18 i (show _ < 16 by omega) (by decide) (by decide)]; exact h4⟩, a, c, hc, by rw [hν 19 i (show _ < 16 by omega) (by decide) (by decide)]; exact h5, by rw [hν 20 i (show _ < 16 by omega) (by decide) (by decide)]; exact h6, ⟨t, by rw [he.2.1]; exact ht, TM_in tm h22 _ _ _ _ (TM_lt Tt) hc Tt⟩, ?_⟩
    rw [he.2.1, hν 21 i (show _ < 16 by omega) (by decide) (by decide)]
    rcases h7 with h7 | ⟨t2, f, q1, q2, q3, q4⟩
    · exact Or.inl h7
    · exact Or.inr ⟨t2, f, q1, q2, q3, TB_in tm h22 _ _ _ _ (TB_lt q4) q2 q4⟩
  · have hk : (kd e).1 < 90 := by rcases h.2.2 with q | q <;> rw [q.1] <;> decide
    have he := hM e hk h.1
    unfold LSky at h ⊢
    rw [he.1, he.2.2, hν 34 (3 * i) (show _ < 48 by omega) (by decide) (by decide), hν 34 (3 * i + 1) (show _ < 48 by omega) (by decide) (by decide), hν 34 (3 * i + 2) (show _ < 48 by omega) (by decide) (by decide)]
    exact h
  · have hk : (kd e).1 < 90 := by
      obtain ⟨_, _, _, _, _, _, q⟩ := h
      rcases q with q | q | q | q <;> rw [q.1] <;> decide
    have he := hM e hk h.1
    unfold LOff at h ⊢
    rw [he.1, he.2.2, hν 36 (5 * i) (show _ < 80 by omega) (by decide) (by decide), hν 36 (5 * i + 1) (show _ < 80 by omega) (by decide) (by decide), hν 36 (5 * i + 2) (show _ < 80 by omega) (by decide) (by decide), hν 36 (5 * i + 3) (show _ < 80 by omega) (by decide) (by decide), hν 36 (5 * i + 4) (show _ < 80 by omega) (by decide) (by decide)]
    exact h
theorem BOR.cong (K : KI z kd) (B : BOR z b kd P I ν) (hI : ∀ a, b < a → a < b + 269 → I' a = I a) (hb : ∀ j, j ≠ 25 → I' b j = I b j) (hM : KEEP z kd kd' P P' I I') (hP : ∀ j, j ≠ 24 → P' b j = P b j) (hν : ∀ k i, rki k i → ν' k i = ν k i) : BOR z b kd' P' I' ν' := by
  refine ⟨fun k i hm => ?_, fun i hi => ?_, fun l hl e i k hi hk => ?_, ?_, ?_, ?_, ?_, ?_, ?_, ?_, ?_, ?_, ?_, ?_, ?_⟩
  · rw [hν k i (mi_rki hm), ← B.br k i hm]
    have h1 := xl_house (b := b) hm
    by_cases e : (xl b k i).1 = b
    · have h2 : (xl b k i).2 ≠ 25 := fun q => xl_n25 (b := b) hm (Prod.ext e q)
      rw [e]
      exact hb _ h2
    · rw [hI _ (by omega) (by omega)]
  · rw [hν 1 i (show _ < 115 by omega)]; exact B.rgs i hi
  · rw [hν 1 2 (show _ < 115 by omega)] at e
    rw [hν 9 _ (show _ < 600 by omega), hI _ (by omega) (by omega)]
    exact B.bk l hl e i k hi hk
  · rw [hν 5 0 (show _ < 1 by omega)]; exact B.t5
  · rw [hν 6 0 (show _ < 1 by omega)]; exact B.n6
  · rw [hν 37 0 (show _ < 1 by omega), hb 22 (by decide)]; exact B.nl
  · obtain ⟨lw, cl, sk, cs, of, co, nt, p0, p1, p2, p3, L⟩ := B.lws
    exact ⟨lw, cl, sk, cs, of, co, nt, by rw [hP 10 (by decide)]; exact p0, by rw [hP 11 (by decide)]; exact p1, by rw [hP 12 (by decide)]; exact p2, by rw [hP 13 (by decide)]; exact p3, LWS.cong K L hM (fun k i h _ _ => hν k i h)⟩
  · exact B.pieces.cong (fun c h1 h2 => hI c (by omega) (by omega)) (hν _ _ Nat.zero_lt_one) (fun i hi => hν _ _ hi)
  · exact B.doughs.cong (fun c h1 h2 => hI c (by omega) (by omega)) (hν _ _ Nat.zero_lt_one) (fun i hi => hν _ _ hi)
  · exact B.marks.cong (fun c h1 h2 => hI c (by omega) (by omega)) (hν _ _ Nat.zero_lt_one) (fun i hi => hν _ _ hi)
  · exact B.bites.cong (fun c h1 h2 => hI c (by omega) (by omega)) (hν _ _ Nat.zero_lt_one) (fun i hi => hν _ _ hi) (fun i hi => hν _ _ hi)
  · exact B.crumbs.cong (fun c h1 h2 => hI c (by omega) (by omega)) (hν _ _ Nat.zero_lt_one) (fun i hi => hν _ _ hi)
  · exact B.loaves.cong (fun c h1 h2 => hI c (by omega) (by omega)) (hν _ _ Nat.zero_lt_one) (fun i hi => hν _ _ hi) (fun i hi => hν _ _ hi)
  · exact B.heirs.cong (fun c h1 h2 => hI c (by omega) (by omega)) (hν _ _ Nat.zero_lt_one) (fun i hi => hν _ _ hi)
  · exact B.members.cong (fun c h1 h2 => hI c (by omega) (by omega)) (hν _ _ Nat.zero_lt_one) (fun i hi => hν _ _ hi) (fun i hi => hν _ _ hi)
/-- after steps of its own -/
theorem BOR.step (K : KI z kd) (hz : b = z + 2 ∨ b = z + 271) (B : BOR z b kd P I ν) (S : ST b P I ν P' I' ν') : BOR z b kd P' I' ν' := by
  have hz3 : b = z + 2 ∨ b = z + 271 ∨ b = z + 540 := by omega
  have fm : ∀ k, k ≠ 1 → k ≠ 9 → k ≠ 39 → k ≠ 40 → ν' k = ν k := S.fm
  have hM : KEEP z kd kd P P' I I' := fun a _ ha => ⟨S.fx a (imm_chg hz3 ha), funext fun j => S.fp a j (fun e => imm_chg hz3 ha (Or.inl e.1)), rfl⟩
  have hI : ∀ a, b + 153 ≤ a → a < b + 245 → I' a = I a := fun a h1 h2 => S.fx a (by unfold chg; omega)
  refine ⟨S.br, S.rgs, S.bk B.t5, by rw [fm 5 (by decide) (by decide) (by decide) (by decide)]; exact B.t5, by rw [fm 6 (by decide) (by decide) (by decide) (by decide)]; exact B.n6, by rw [fm 37 (by decide) (by decide) (by decide) (by decide), S.fb 22 (by decide) (by decide)]; exact B.nl, ?_, ?_, ?_, ?_, ?_, ?_, ?_, ?_, ?_⟩
  · obtain ⟨lw, cl, sk, cs, of, co, nt, p0, p1, p2, p3, L⟩ := B.lws
    refine ⟨lw, cl, sk, cs, of, co, nt, by rw [S.fp _ _ (by omega)]; exact p0, by rw [S.fp _ _ (by omega)]; exact p1, by rw [S.fp _ _ (by omega)]; exact p2, by rw [S.fp _ _ (by omega)]; exact p3, ?_⟩
    exact LWS.cong K L hM (fun k i h h1 h9 => by rw [fm k (by omega) (by omega) (rki_n39 h).1 (rki_n39 h).2])
  · exact B.pieces.cong (fun c h1 h2 => hI c (by omega) (by omega)) (by rw [fm _ (by decide) (by decide) (by decide) (by decide)]) (fun i hi => by rw [fm _ (by decide) (by decide) (by decide) (by decide)])
  · exact B.doughs.cong (fun c h1 h2 => hI c (by omega) (by omega)) (by rw [fm _ (by decide) (by decide) (by decide) (by decide)]) (fun i hi => by rw [fm _ (by decide) (by decide) (by decide) (by decide)])
  · exact B.marks.cong (fun c h1 h2 => hI c (by omega) (by omega)) (by rw [fm _ (by decide) (by decide) (by decide) (by decide)]) (fun i hi => by rw [fm _ (by decide) (by decide) (by decide) (by decide)])
  · exact B.bites.cong (fun c h1 h2 => hI c (by omega) (by omega)) (by rw [fm _ (by decide) (by decide) (by decide) (by decide)]) (fun i hi => by rw [fm _ (by decide) (by decide) (by decide) (by decide)]) (fun i hi => by rw [fm _ (by decide) (by decide) (by decide) (by decide)])
  · exact B.crumbs.cong (fun c h1 h2 => hI c (by omega) (by omega)) (by rw [fm _ (by decide) (by decide) (by decide) (by decide)]) (fun i hi => by rw [fm _ (by decide) (by decide) (by decide) (by decide)])
  · exact B.loaves.cong (fun c h1 h2 => hI c (by omega) (by omega)) (by rw [fm _ (by decide) (by decide) (by decide) (by decide)]) (fun i hi => by rw [fm _ (by decide) (by decide) (by decide) (by decide)]) (fun i hi => by rw [fm _ (by decide) (by decide) (by decide) (by decide)])
  · exact B.heirs.cong (fun c h1 h2 => hI c (by omega) (by omega)) (by rw [fm _ (by decide) (by decide) (by decide) (by decide)]) (fun i hi => by rw [fm _ (by decide) (by decide) (by decide) (by decide)])
  · exact B.members.cong (fun c h1 h2 => hI c (by omega) (by omega)) (by rw [fm _ (by decide) (by decide) (by decide) (by decide)]) (fun i hi => by rw [fm _ (by decide) (by decide) (by decide) (by decide)]) (fun i hi => by rw [fm _ (by decide) (by decide) (by decide) (by decide)])
end CONG
