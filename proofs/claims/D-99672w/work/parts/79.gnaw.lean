/-! ===== ants and rain ===== -/
theorem ok2_jj {S S' α β : Type} {k : S → Option α} {k' : S' → Option β} {f : (S → Option α) → Option α} {f' : (S' → Option β) → Option β} {Q : α → β → Prop} (J : S → S' → Prop) (hk : ∀ j j', J j j' → ok2 (k j) (k' j') Q) (hf : ∀ k k', (∀ j j', J j j' → ok2 (k j) (k' j') Q) → ok2 (f k) (f' k') Q) : ok2 (jn k f) (jn k' f') Q := hf k k' hk
theorem ok2_lpb {S S' R R' T : Type} {body : (S → Option T) → S → Option T} {body' : (S' → Option R) → S' → Option R} {k' : R → Option R'} {Q : T → R' → Prop} (Inv : S → S' → Prop) (me : S → Nat)
    (h : ∀ again again' s s', Inv s s' → (∀ t t', Inv t t' → me t < me s → ok2 (again t) ((again' t').bind k') Q) → ok2 (body again s) ((body' again' s').bind k') Q) : ∀ n n' s s', Inv s s' → me s < n → me s < n' → ok2 (lp body n s) ((lp body' n' s').bind k') Q := by
  intro n
  induction n with
  | zero => intro n' s s' _ hn; exact absurd hn (Nat.not_lt_zero _)
  | succ n ih =>
    intro n' s s' hs hn hn'
    cases n' with
    | zero => exact absurd hn' (Nat.not_lt_zero _)
    | succ n' => exact h (lp body n) (lp body' n') s s' hs (fun t t' ht hlt => ih n' t t' ht (by omega) (by omega))
theorem ite_bind {α β : Type} {c : Prop} {inst : Decidable c} (a b : Option α) (k : α → Option β) : (@ite _ c inst a b).bind k = @ite _ c inst (a.bind k) (b.bind k) := by split <;> rfl
theorem bind_sm {α : Type} (o : Option α) : (o.bind fun r => some r) = o := by cases o <;> rfl
theorem not4 {w : Nat} (h4 : w ≤ 4) (c : ¬ nI 4 ≤ nI w) : w < 4 := by
  have := mt (nI_leI (a := 4) (b := w) (by omega) (by omega)).mpr c
  omega
section GNAW
variable {kd : Kd} {b n nt : Nat} {P0 P : Ptr} {I0 μ0 I μ : Mem}
theorem gnawed2 (T : TL kd b P0 I0 μ0) (S : ST b P0 I0 μ0 P I μ) {h : Nat} (hh : h < 12) : ok2 (x1_isGnawed kd P I b (nI h)) (m_isGnawed μ (nI h)) (fun r μ' => ST b P0 I0 μ0 r.1 r.2 μ') := by
  unfold x1_isGnawed m_isGnawed
  rw [ix_eq hh (by decide), Option.bind_some]
  refine ok2_jj (fun j j' => ∃ c, c ≤ 4 ∧ j.1 = nI c ∧ j'.1 = nI c ∧ ST b P0 I0 μ0 j.2.1 j.2.2 j'.2) ?_ ?_
  · rintro ⟨c1, P1, I1⟩ ⟨c2, μ1⟩ ⟨c, hc, e1, e2, S1⟩
    dsimp only at e1 e2 S1 ⊢
    subst e1
    subst e2
    refine ok2_nl ?_
    rw [rd_eq (by decide) (by decide), Option.bind_some, wr_eq (by decide) (by decide), Option.bind_some, S1.br.gnawed]
    have S2 := S1.set (i := 6) (by omega) (by omega) rfl (x := μ1 1 6 + nI c) (rg_no _ (by omega) (by omega) (by omega) (by omega))
    have h0 : (if nI c ≤ 0 then some (up2 μ1 1 6 (μ1 1 6 + nI c)) else (m_notes (up2 μ1 1 6 (μ1 1 6 + nI c)) (nI 2) (nI h) (nI c)).bind fun r6 => some r6) = (if nI c ≤ 0 then some (up2 μ1 1 6 (μ1 1 6 + nI c)) else m_notes (up2 μ1 1 6 (μ1 1 6 + nI c)) (nI 2) (nI h) (nI c)) := by
      rw [bind_sm]
    rw [h0]
    refine ok2_l ?_
    obtain ⟨I', μ', e1, e2, S'⟩ := counts2 S2 (nI 2) (nI h) (nI c) rfl
    exact ⟨I', e1, _, _, rfl, e2, S'⟩
  · intro k k' hk
    refine ok2_lp (fun s s' => ∃ c w, c ≤ w ∧ w ≤ 4 ∧ s.1 = nI c ∧ s'.1 = nI c ∧ s.2.1 = nI w ∧ s'.2.1 = nI w ∧ ST b P0 I0 μ0 s.2.2.1 s.2.2.2 s'.2.2) (fun s => 4 - s.2.1.toNatClampNeg) ?_ fuel fuel _ _ ⟨0, 0, by decide, by decide, rfl, rfl, rfl, rfl, S⟩ (by show 4 - (nI 0).toNatClampNeg < 20000; omega) (by show 4 - (nI 0).toNatClampNeg < 20000; omega)
    rintro again again' ⟨s1, s2, P1, I1⟩ ⟨s3, s4, μ1⟩ ⟨c, w, hcw, hw, e1, e2, e3, e4, S1⟩ ih
    dsimp only at e1 e2 e3 e4 S1 ih ⊢
    subst e1 e2 e3 e4
    refine ok2_ii Iff.rfl (fun _ _ => hk _ _ ⟨c, by omega, rfl, rfl, S1⟩) (fun cw _ => ?_)
    have hw4 := not4 hw cw
    have go : ∀ P2 I2 μ2 c', c' ≤ w + 1 → ST b P0 I0 μ0 P2 I2 μ2 → ok2 (again (nI c', nI (w + 1), P2, I2)) (again' (nI c', nI (w + 1), μ2)) _ := fun P2 I2 μ2 c' hc' S2 => ih _ _ ⟨c', w + 1, hc', hw4, rfl, rfl, rfl, rfl, S2⟩ (by
      show 4 - (nI (w + 1)).toNatClampNeg < 4 - (nI w).toNatClampNeg
      rw [nI_clamp (by omega), nI_clamp (by omega)]
      omega)
    rw [rd_eq hw4 (by decide), Option.bind_some, b_hut, S1.br.wall hh hw4, wallOf_m _ hh hw4, Option.bind_some, wl, nI_add, nI_add]
    obtain ⟨v, hv, ev⟩ := S1.wl hh hw4
    rw [ev]
    refine ok2_jl ?_
    by_cases c0 : nI v = 0
    · rw [if_pos c0, if_pos c0]
      dsimp only
      rw [if_pos (by decide)]
      exact go _ _ _ _ (by omega) S1
    · rw [if_neg c0, if_neg c0]
      have hv1 : 1 ≤ v := by
        rcases Nat.eq_zero_or_pos v with e | e
        · rw [e] at c0; exact absurd nI_0 c0
        · exact e
      refine ok2_b ((T P1 I1 μ1 S1 h hh).2.1 w hw4) (fun r t hrt => ?_)
      obtain ⟨g1, P2, I2⟩ := r
      obtain ⟨g2, μ2⟩ := t
      obtain ⟨e, ⟨q, hq, eq⟩, S2, er⟩ := hrt
      dsimp only at e eq S2 er ⊢
      subst e
      subst eq
      dsimp only [jn]
      have bite : ∀ I3 μ3, ST b P0 I0 μ0 P2 I3 μ3 → μ3 1 (7 + 4 * h + w) = nI v → ok2 ((x3_loses I3 (b + 245 + 2 * h) (nI w) (nI 1)).bind fun r19 => again ((nI c + r19.1), nI (w + 1), P2, r19.2)) (if nI 1 = 0 then again' (nI c, nI (w + 1), μ3) else (m_wallOf μ3 (nI h) (nI w)).bind fun r15 => (m_hasWall μ3 (nI h) (nI w) (r15 - (nI 1))).bind fun r16 => again' (nI (c + 1), nI (w + 1), r16)) (fun r μ' => ST b P0 I0 μ0 r.1 r.2 μ') := by
        intro I3 μ3 S3 ev3
        rw [if_neg (by decide), loses_x S3 hh hw4 ev3 hv (by decide), Option.bind_some, wallOf_m _ hh hw4, Option.bind_some, wl, ev3, hw_less hh hw4 hv (by decide), Option.bind_some]
        dsimp only
        rw [show min 1 v = 1 by omega, nI_add]
        exact go _ _ _ _ (by omega) (S3.wset hh hw4 (by omega))
      have ev2 : μ2 1 (7 + 4 * h + w) = nI v := by rw [er]; exact ev
      by_cases c5 : μ2 5 0 = 0
      · have c5x : I2 b 23 = 0 := by rw [S2.br.thought]; exact c5
        rw [if_pos c5, if_pos c5x]
        by_cases cq : nI q ≤ 0
        · rw [if_pos cq, if_pos cq, if_pos (by decide)]
          exact go _ _ _ _ (by omega) S2
        · rw [if_neg cq, if_neg cq]
          refine ok2_b (draw2 S2) (fun r t hrt => ?_)
          obtain ⟨d1, I3⟩ := r
          obtain ⟨d2, μ3⟩ := t
          obtain ⟨e, S3, er3⟩ := hrt
          dsimp only at e S3 er3 ⊢
          subst e
          by_cases cd : nI q ≤ d1
          · rw [if_pos cd, if_pos cd, if_pos (by decide)]
            exact go _ _ _ _ (by omega) S3
          · rw [if_neg cd, if_neg cd]
            exact bite I3 μ3 S3 (by rw [er3 _ (by omega)]; exact ev2)
      · have c5x : ¬ I2 b 23 = 0 := by rw [S2.br.thought]; exact c5
        rw [if_neg c5, if_neg c5x, pk_mul]
        by_cases cq : q < 500
        · refine ok2_tr (nI_lt (by omega) (by decide)) (ok2_tr nI_0 ?_)
          by_cases c0 : nI q ≤ 0
          · rw [if_pos c0]
            exact go _ _ _ _ (by omega) S2
          · rw [if_neg c0, if_pos (nI_lt cq (by decide))]
            exact go _ _ _ _ (by omega) S2
        · refine ok2_fr (nI_nlt (by omega) (by omega)) (ok2_fl (nI_nle (by omega) (by omega)) (ok2_fl (nI_nlt (by omega) (by omega)) ?_))
          exact bite I2 μ2 S2 ev2
theorem lesser_nI (μ : Mem) {a c : Nat} (ha : a < 2 ^ 31) (hc : c < 2 ^ 31) : m_lesser μ (nI a) (nI c) = some (nI (min a c)) := by
  unfold m_lesser
  by_cases h : c ≤ a
  · rw [if_pos (nI_le h ha), Nat.min_eq_right h]
  · rw [if_neg (nI_ge (by omega) hc), Nat.min_eq_left (by omega)]
theorem imin_lesser (μ : Mem) (a c : Int32) : m_lesser μ a c = some (imin a c) := by
  unfold m_lesser imin
  by_cases h : c < a
  · rw [if_pos (fa_of_lt h).1, if_pos h]
  · rw [if_neg h]
    by_cases h2 : c ≤ a
    · rw [if_pos h2]
      rcases fa_three c a with q | q | q
      · exact absurd q h
      · rw [q]
      · exact absurd h2 (fa_of_lt q).2.1
    · rw [if_neg h2]
/-- no frost: it melts -/
theorem melt2 (T : TL kd b P0 I0 μ0) (S : ST b P0 I0 μ0 P I μ) {h : Nat} (hh : h < 12) (hf : μ 1 4 = nI 0) : ok2 (x1_isMelting kd P I b (nI h)) (m_doesMelt μ (nI h)) (fun r μ' => ST b P0 I0 μ0 r.1 r.2 μ' ∧ μ' 1 4 = nI 0) := by
  unfold x1_isMelting m_doesMelt
  rw [ix_eq hh (by decide), Option.bind_some]
  refine ok2_jj (fun j j' => ∃ c, c ≤ 400 ∧ j.1 = nI c ∧ j'.1 = nI c ∧ ST b P0 I0 μ0 j.2.1 j.2.2 j'.2 ∧ j'.2 1 4 = nI 0) ?_ ?_
  · rintro ⟨c1, P1, I1⟩ ⟨c2, μ1⟩ ⟨c, hc, e1, e2, S1, hf1⟩
    dsimp only at e1 e2 S1 hf1 ⊢
    subst e1
    subst e2
    rw [bind_sm]
    obtain ⟨I', μ', e1, e2, S'⟩ := counts2 S1 (nI 3) (nI h) (nI c) rfl
    have hf' : μ' 1 4 = nI 0 := by
      by_cases c0 : nI c ≤ 0
      · rw [if_pos c0] at e2; cases e2; exact hf1
      · rw [if_neg c0] at e2; rw [(notes_m_fr e2).1 4 (by decide)]; exact hf1
    rw [e1, e2, Option.bind_some, S'.br.frost, hf', if_neg (by decide)]
    exact ok2_some ⟨S', hf'⟩
  · intro k k' hk
    refine ok2_lp (fun s s' => ∃ c w, c ≤ 100 * w ∧ w ≤ 4 ∧ s.1 = nI c ∧ s'.1 = nI c ∧ s.2.1 = nI w ∧ s'.2.1 = nI w ∧ ST b P0 I0 μ0 s.2.2.1 s.2.2.2 s'.2.2 ∧ s'.2.2 1 4 = nI 0) (fun s => 4 - s.2.1.toNatClampNeg) ?_ fuel fuel _ _ ⟨0, 0, by decide, by decide, rfl, rfl, rfl, rfl, S, hf⟩ (by show 4 - (nI 0).toNatClampNeg < 20000; omega) (by show 4 - (nI 0).toNatClampNeg < 20000; omega)
    rintro again again' ⟨s1, s2, P1, I1⟩ ⟨s3, s4, μ1⟩ ⟨c, w, hcw, hw, e1, e2, e3, e4, S1, hf1⟩ ih
    dsimp only at e1 e2 e3 e4 S1 hf1 ih ⊢
    subst e1 e2 e3 e4
    refine ok2_ii Iff.rfl (fun _ _ => hk _ _ ⟨c, by omega, rfl, rfl, S1, hf1⟩) (fun cw _ => ?_)
    have hw4 := not4 hw cw
    have go : ∀ P2 I2 μ2 c', c' ≤ 100 * (w + 1) → ST b P0 I0 μ0 P2 I2 μ2 → μ2 1 4 = nI 0 → ok2 (again (nI c', nI (w + 1), P2, I2)) (again' (nI c', nI (w + 1), μ2)) _ := fun P2 I2 μ2 c' hc' S2 hf2 => ih _ _ ⟨c', w + 1, hc', hw4, rfl, rfl, rfl, rfl, S2, hf2⟩ (by
      show 4 - (nI (w + 1)).toNatClampNeg < 4 - (nI w).toNatClampNeg
      rw [nI_clamp (by omega), nI_clamp (by omega)]
      omega)
    obtain ⟨v, hv, ev⟩ := S1.wl hh hw4
    refine ok2_tl (show I1 b 16 = 0 by rw [S1.br.frost, hf1]; decide) ?_
    rw [rd_eq (k := 1) (i := 4) (by decide) (by decide), Option.bind_some, hf1, if_pos nI_0, rd_eq hw4 (by decide), Option.bind_some, b_hut, S1.br.wall hh hw4, wallOf_m _ hh hw4, Option.bind_some, wl, nI_add, ev]
    refine ok2_jl (ok2_jr ?_)
    by_cases c0 : nI v = 0
    · rw [if_pos c0, if_pos c0]
      dsimp only
      rw [wallOf_m _ hh hw4, Option.bind_some, wl, ev, hw_less hh hw4 hv (by decide), Option.bind_some, up2_id (by rw [ev]; rfl), nI_add]
      exact go _ _ _ _ (by omega) S1 hf1
    · rw [if_neg c0, if_neg c0, Option.bind_some]
      refine ok2_b ((T P1 I1 μ1 S1 h hh).2.2 w hw4) (fun r t hrt => ?_)
      obtain ⟨g1, P2, I2⟩ := r
      obtain ⟨g2, μ2⟩ := t
      obtain ⟨e, ⟨q, hq, eq⟩, S2, er⟩ := hrt
      dsimp only at e eq S2 er ⊢
      subst e
      subst eq
      have ev2 : μ2 1 (7 + 4 * h + w) = nI v := by rw [er]; exact ev
      rw [loses_x S2 hh hw4 ev2 hv (by omega), Option.bind_some, lesser_nI _ (by omega) (by omega), Option.bind_some]
      dsimp only
      rw [wallOf_m _ hh hw4, Option.bind_some, wl, ev2, hw_less hh hw4 hv (by omega), Option.bind_some, nI_add, nI_add, show min v q = min q v from Nat.min_comm _ _, show v - min q v = v - q by omega]
      exact go _ _ _ _ (by omega) (S2.wset hh hw4 (by omega)) (by rw [up2_ne (by omega), er]; exact hf1)
/-- frost: nothing melts -/
theorem melt_no {μ : Mem} (h : Int32) (hf : μ 1 4 = nI 1) : m_doesMelt μ h = some μ := by
  unfold m_doesMelt
  refine ok_val (ok_jn (fun j => j = (nI 0, μ)) ?_ ?_)
  · rintro j rfl
    dsimp only
    rw [if_pos (by decide)]
    exact ok_some rfl
  · intro k hk
    rw [fuel_10, lp_s]
    dsimp only
    rw [if_neg i40, rd_eq (by decide) (by decide), Option.bind_some, hf, if_neg (by decide)]
    exact hk _ rfl
/-- frost: it hardens -/
theorem hard_x (S : ST b P0 I0 μ0 P I μ) {h : Nat} (hh : h < 12) (hf : μ 1 4 = nI 1) : ok (x1_isMelting kd P I b (nI h)) (fun r => r.1 = P ∧ ST b P0 I0 μ0 P r.2 (if sd μ h = true then up2 μ 1 (55 + h) (imin (nI 9) (μ 1 (55 + h) + nI 1)) else μ)) := by
  unfold x1_isMelting
  rw [ix_eq hh (by decide), Option.bind_some]
  refine ok_jn (fun j => j = (nI 0, P, I)) ?_ ?_
  · rintro j rfl
    dsimp only
    unfold x1_counts
    rw [if_pos (by decide), Option.bind_some, S.br.frost, hf, if_pos rfl, bsd S.br hh, Option.bind_some]
    refine ok_ite (fun c => ?_) (fun c => ?_)
    · rw [if_neg (by rw [bI_0.mp c]; decide)]
      exact ok_some ⟨rfl, S⟩
    · have hs : sd μ h = true := by cases e : sd μ h; exact absurd (bI_0.mpr e) c; rfl
      rw [if_pos hs]
      refine ok_nm (ok_some ⟨rfl, ?_⟩)
      dsimp only
      rw [S.br.hard hh]
      exact S.set (by omega) (by omega) (xl_hard hh) (rg_no _ (by omega) (by omega) (by omega) (by omega))
  · intro k hk
    rw [fuel_10, lp_s]
    dsimp only
    rw [if_neg i40]
    refine ok_f (show ¬ I b 16 = 0 by rw [S.br.frost, hf]; decide) ?_
    exact hk _ rfl
end GNAW
