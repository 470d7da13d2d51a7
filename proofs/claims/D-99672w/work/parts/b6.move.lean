/-! ===== what moves from one borough to another ===== -/
section MOVE
variable {z : Nat} {kd : Kd} {P : Ptr} {I I' μ μ' : Mem}
theorem takes3 {a x : Nat} (h1 : x ≠ a) (h2 : x ≠ a + 1) (h3 : x + 1 ≠ a) (hz : I x 7 = nI 0 ∨ I x 7 = nI 1) : ok (x3_takes I a x) (fun J => (∀ w, w < 4 → J (a + 1) w = I (x + 1) w) ∧ (∀ j, 1 ≤ j → j ≤ 7 → J a j = I x j) ∧ ∀ q, q ≠ a → q ≠ a + 1 → J q = I q) := by
  unfold x3_takes
  refine ok_jn (fun J => (∀ w, w < 4 → J (a + 1) w = I (x + 1) w) ∧ ∀ q, q ≠ a + 1 → J q = I q) ?_ (fun k hk => ?_)
  · rintro J ⟨g1, g2⟩
    simp only [nm_eq]
    have xr : ∀ (M : Mem) (i j : Nat) (v : Int32), up2 M a i v x j = M x j := fun M i j v => by rw [up2_k h1]
    simp only [xr, g2 x h2]
    have ez : zb (I x 7) = some () := by
      unfold zb
      exact if_pos (by rcases hz with e | e <;> rw [e] <;> decide)
    rw [ez, Option.bind_some]
    refine ok_some ⟨fun w hw => ?_, fun j hj1 hj7 => ?_, fun q hq1 hq2 => ?_⟩
    · rw [up2_k (by omega), up2_k (by omega), up2_k (by omega), up2_k (by omega), up2_k (by omega), up2_k (by omega), up2_k (by omega)]
      exact g1 w hw
    · have : j = 1 ∨ j = 2 ∨ j = 3 ∨ j = 4 ∨ j = 5 ∨ j = 6 ∨ j = 7 := by omega
      rcases this with rfl | rfl | rfl | rfl | rfl | rfl | rfl <;> simp (disch := omega) only [up2_same, up2_ne]
    · rw [up2_k hq1, up2_k hq1, up2_k hq1, up2_k hq1, up2_k hq1, up2_k hq1, up2_k hq1]
      exact g2 q hq2
  · refine ok_for 4 (fun i s => s.1 = nI i ∧ (∀ w, w < i → s.2 (a + 1) w = I (x + 1) w) ∧ ∀ q, q ≠ a + 1 → s.2 q = I q) (by decide) ?_ ⟨rfl, fun w h => by omega, fun _ _ => rfl⟩
    rintro again i ⟨_, J⟩ hi ⟨e, g1, g2⟩ ih
    dsimp only at e g1 g2 ⊢
    subst e
    refine ok_ite (fun c => ?_) (fun c => ?_)
    · have := le_iff (by decide) (by omega) c
      exact hk _ ⟨fun w hw => g1 w (by omega), g2⟩
    · have hlt := nle_iff (by decide) (by omega) c
      rw [rd_eq (i := i) (by omega) (by decide), Option.bind_some, wr_eq (i := i) (by omega) (by decide), Option.bind_some, nI_add, g2 (x + 1) (by omega)]
      refine ih hlt _ ⟨rfl, fun w hw => ?_, fun q hq => by dsimp only; rw [up2_k hq]; exact g2 q hq⟩
      dsimp only
      by_cases e : w = i
      · subst e; rw [up2_same]
      · rw [up2_ne (Or.inr e)]; exact g1 w (by omega)
/-- the borough at x's is now at a too -/
def MV (I : Mem) (a x : Nat) (J : Mem) : Prop := (∀ k i, mi k i → k ≠ 5 → k ≠ 6 → J (xl a k i).1 (xl a k i).2 = I (xl x k i).1 (xl x k i).2) ∧ (∀ q, ¬ (q = a ∨ (a + 245 ≤ q ∧ q < a + 269)) → J q = I q) ∧ ∀ j, (j < 15 ∨ 22 ≤ j) → J a j = I a j
theorem movesX {a x : Nat} (hd : a + 269 ≤ x ∨ x + 269 ≤ a) (hz : ∀ h, h < 12 → I (x + 245 + 2 * h) 7 = nI 0 ∨ I (x + 245 + 2 * h) 7 = nI 1) : ok (x1_moves I a x) (MV I a x) := by
  unfold x1_moves
  refine ok_jn (fun J => (∀ h, h < 12 → (∀ w, w < 4 → J (a + 246 + 2 * h) w = I (x + 246 + 2 * h) w) ∧ ∀ j, 1 ≤ j → j ≤ 7 → J (a + 245 + 2 * h) j = I (x + 245 + 2 * h) j) ∧ ∀ q, ¬ (a + 245 ≤ q ∧ q < a + 269) → J q = I q) ?_ (fun k hk => ?_)
  · rintro J ⟨g1, g2⟩
    simp only [nm_eq]
    have hxa : x ≠ a := by omega
    have xr : ∀ (M : Mem) (i j : Nat) (v : Int32), up2 M a i v x j = M x j := fun M i j v => by rw [up2_k hxa]
    simp only [xr, g2 x (by omega)]
    have far : ∀ q j, q ≠ a → up2 (up2 (up2 (up2 (up2 (up2 (up2 J a 15 (I x 15)) a 16 (I x 16)) a 17 (I x 17)) a 18 (I x 18)) a 19 (I x 19)) a 20 (I x 20)) a 21 (I x 21) q j = J q j := fun q j hq => by
      rw [up2_k hq, up2_k hq, up2_k hq, up2_k hq, up2_k hq, up2_k hq, up2_k hq]
    refine ok_some ⟨fun k i hm h5 h6 => ?_, fun q hq => ?_, fun j hj => ?_⟩
    · rcases mi_cases hm with ⟨rfl, h⟩ | ⟨h, w, hh, hw, rfl, rfl⟩ | ⟨h, hh, rfl, rfl⟩ | ⟨h, hh, rfl, rfl⟩ | ⟨h, hh, rfl, rfl⟩ | ⟨h, hh, rfl, rfl⟩ | ⟨h, hh, rfl, rfl⟩ | ⟨rfl, h⟩ | ⟨rfl, h⟩ | ⟨rfl, rfl⟩ | ⟨rfl, rfl⟩
      · have : i = 0 ∨ i = 1 ∨ i = 2 ∨ i = 3 ∨ i = 4 ∨ i = 5 ∨ i = 6 := by omega
        rw [xl_low h, xl_low h]
        rcases this with rfl | rfl | rfl | rfl | rfl | rfl | rfl <;> simp only [List.getD_cons_zero, List.getD_cons_succ] <;> simp (disch := omega) only [up2_same, up2_ne]
      · rw [xl_wall hh hw, xl_wall hh hw, far _ _ (by dsimp only; omega)]; exact (g1 h hh).1 w hw
      · rw [xl_hard hh, xl_hard hh, far _ _ (by dsimp only; omega)]; exact (g1 h hh).2 3 (by decide) (by decide)
      · rw [xl_icing hh, xl_icing hh, far _ _ (by dsimp only; omega)]; exact (g1 h hh).2 4 (by decide) (by decide)
      · rw [xl_lodgers hh, xl_lodgers hh, far _ _ (by dsimp only; omega)]; exact (g1 h hh).2 5 (by decide) (by decide)
      · rw [xl_door hh, xl_door hh, far _ _ (by dsimp only; omega)]; exact (g1 h hh).2 7 (by decide) (by decide)
      · rw [xl_age hh, xl_age hh, far _ _ (by dsimp only; omega)]; exact (g1 h hh).2 6 (by decide) (by decide)
      · rw [show xl a 7 i = (a + 245 + 2 * i, 1) from rfl, show xl x 7 i = (x + 245 + 2 * i, 1) from rfl, far _ _ (by dsimp only; omega)]; exact (g1 i h).2 1 (by decide) (by decide)
      · rw [show xl a 8 i = (a + 245 + 2 * i, 2) from rfl, show xl x 8 i = (x + 245 + 2 * i, 2) from rfl, far _ _ (by dsimp only; omega)]; exact (g1 i h).2 2 (by decide) (by decide)
      · exact absurd rfl h6
      · exact absurd rfl h5
    · rw [up2_k (by omega), up2_k (by omega), up2_k (by omega), up2_k (by omega), up2_k (by omega), up2_k (by omega), up2_k (by omega)]
      exact g2 q (by omega)
    · rw [up2_ne (by omega), up2_ne (by omega), up2_ne (by omega), up2_ne (by omega), up2_ne (by omega), up2_ne (by omega), up2_ne (by omega), g2 a (by omega)]
  · refine ok_for 12 (fun i s => s.1 = nI i ∧ (∀ h, h < i → (∀ w, w < 4 → s.2 (a + 246 + 2 * h) w = I (x + 246 + 2 * h) w) ∧ ∀ j, 1 ≤ j → j ≤ 7 → s.2 (a + 245 + 2 * h) j = I (x + 245 + 2 * h) j) ∧ ∀ q, ¬ (a + 245 ≤ q ∧ q < a + 269) → s.2 q = I q) (by decide) ?_ ⟨rfl, fun h hh => by omega, fun _ _ => rfl⟩
    rintro again i ⟨_, J⟩ hi ⟨e, g1, g2⟩ ih
    dsimp only at e g1 g2 ⊢
    subst e
    refine ok_ite (fun c => ?_) (fun c => ?_)
    · have := le_iff (by decide) (by omega) c
      exact hk _ ⟨fun h hh => g1 h (by omega), g2⟩
    · have hlt := nle_iff (by decide) (by omega) c
      rw [ix_eq (i := i) (by omega) (by decide), Option.bind_some, Option.bind_some, nI_add]
      refine ok_bind' (takes3 (I := J) (a := a + 245 + 2 * i) (x := x + 245 + 2 * i) (by omega) (by omega) (by omega) (by rw [g2 _ (by omega)]; exact hz i (by omega))) ?_
      rintro J2 ⟨k1, k2, k3⟩
      refine ih hlt _ ⟨rfl, fun h hh => ?_, fun q hq => ?_⟩
      · dsimp only
        by_cases e : h = i
        · subst e
          refine ⟨fun w hw => ?_, fun j j1 j7 => ?_⟩
          · have := k1 w hw
            rw [show a + 245 + 2 * h + 1 = a + 246 + 2 * h by omega, show x + 245 + 2 * h + 1 = x + 246 + 2 * h by omega, g2 (x + 246 + 2 * h) (by omega)] at this
            exact this
          · rw [k2 j j1 j7, g2 _ (by omega)]
        · rw [k3 _ (by omega) (by omega), k3 _ (by omega) (by omega)]
          exact g1 h (by omega)
      · dsimp only
        rw [k3 q (by omega) (by omega)]
        exact g2 q hq
/-- a change of what can be undone -/
theorem RR.undo' {P' : Ptr} (R : RR z kd P I μ) (fx : ∀ a, a ≠ z → ¬ (z + 809 ≤ a ∧ a < z + 2424) → I' a = I a) (fz : ∀ j, j ≠ 8 → I' z j = I z j) (fp : ∀ a, a ≠ z + 809 → P' a = P a) (fm : ∀ k, k ≠ 2 → k ≠ 3 → μ' k = μ k) (und : UND z P' I' μ') : RR z kd P' I' μ' := by
  have e74 : vw μ' = vw μ := vw_eq (fm 74 (by omega) (by omega))
  have hM : KEEP z kd kd P P' I I' := fun a _ ha => ⟨fx a (by unfold IMM at ha; omega) (by unfold IMM at ha; omega), fp a (by unfold IMM at ha; omega), rfl⟩
  have hr : ∀ {k i : Nat}, rki k i → k ≠ 2 ∧ k ≠ 3 := fun h => ⟨fun e => by subst e; exact absurd h (Nat.not_lt_zero _), fun e => by subst e; exact absurd h (Nat.not_lt_zero _)⟩
  refine ⟨R.K, R.bor.cong R.K (fun a h1 h2 => fx a (by omega) (by omega)) (fun j _ => by rw [fx (z + 2) (by omega) (by omega)]) hM (fun j _ => by rw [fp (z + 2) (by omega)]) (fun k i h => by rw [fm k (hr h).1 (hr h).2]), ?_, by rw [fx (z + 540) (by omega) (by omega)]; exact R.th, by rw [fx (z + 271) (by omega) (by omega)]; exact R.tk, und, ?_, ?_, fun t h1 h2 h3 => by rw [fx (z + 2462) (by omega) (by omega)]; exact R.memo t h1 h2 h3, by rw [fm 69 (by omega) (by omega)]; exact R.w69, fun i hi => by rw [fm 16 (by omega) (by omega)]; exact R.wrd i hi⟩
  · rcases R.img with ⟨a, b⟩ | ⟨a, b, c⟩
    · exact Or.inl ⟨by rw [fz 9 (by omega)]; exact a, by rw [fm 72 (by omega) (by omega)]; exact b⟩
    · refine Or.inr ⟨by rw [fz 9 (by omega)]; exact a, by rw [fm 72 (by omega) (by omega)]; exact b, ?_⟩
      exact c.cong R.K (fun a h1 h2 => fx a (by omega) (by omega)) (fun j _ => by rw [fx (z + 271) (by omega) (by omega)]) hM (fun j _ => by rw [fp (z + 271) (by omega)]) (fun k i h => by rw [e74])
  · obtain ⟨t, ht, a, b, c⟩ := R.tap
    refine ⟨t, ht, by rw [fz 1 (by omega)]; exact a, by rw [fm 11 (by omega) (by omega)]; exact b, fun i hi => ?_⟩
    rw [fx (z + 1) (by omega) (by omega), fm 10 (by omega) (by omega)]
    exact c i hi
  · rw [fz 2 (by omega), fz 3 (by omega), fm 31 (by omega) (by omega), fm 32 (by omega) (by omega)]
    exact R.flt
theorem pix_of {a n i r : Nat} {k : Nat × Nat × Nat} (hi : i < n) (hn : n < 2 ^ 31) (h : P a i = some r) (hk : kd r = k) : pix kd P a n (nI i) k = some r := by
  unfold pix
  rw [ix_eq hi hn, Option.bind_some, pk_of h hk]
theorem wrP_of {a n i r : Nat} (hi : i < n) (hn : n < 2 ^ 31) : wrP P a n (nI i) r = some (upP P a i (some r)) := by
  unfold wrP
  rw [ix_eq hi hn]
  rfl
theorem und_door (R : RR z kd P I μ) {h : Nat} (hh : h < 12) : I (z + 2 + 245 + 2 * h) 7 = nI 0 ∨ I (z + 2 + 245 + 2 * h) 7 = nI 1 := by
  rw [R.bor.br.door hh]
  exact (R.bor.rgs (91 + h) (by omega)).2.1 (by omega) (by omega)
/-- one more that can be undone, of at most five -/
theorem push2 (R : RR z kd P I μ) {m : Nat} (hm : m < 6) (e1 : I z 8 = nI m) (e2 : μ 3 0 = nI m) : ok2 ((pix kd P (z + 809) 6 (I z 8) (1, 0, 0)).bind fun b4 => (x1_moves I b4 (z + 2)).bind fun r6 => nm (up2 r6 z 8 ((r6 z 8) + (nI 1))) fun I8 => some (P, I8)) (jn (fun (j4 : Mem) => nm (up2 j4 3 0 ((j4 3 0) + (nI 1))) fun μ7 => some μ7) (fun k5 => lp (fun again9 (j8 : Int32 × Mem) => if (nI 115) ≤ j8.1 then k5 j8.2 else (rd j8.2 1 115 j8.1).bind fun v11 => (wr j8.2 2 690 (((nI 115) * (j8.2 3 0)) + j8.1) v11).bind fun μ12 => again9 ((j8.1 + (nI 1)), μ12)) fuel ((nI 0), μ))) (fun r t => RR z kd r.1 r.2 t) := by
  obtain ⟨m', hm', g1, g2, π, L, hπ, hi, hs, hL, hL2⟩ := R.und
  have : m' = m := by rw [e1, nI_eq (by omega) (by omega)] at g1; omega
  subst this
  obtain ⟨hp6, hpP⟩ := hπ m' hm
  rw [e1, pix_of hm (by decide) hpP (R.K.kb _ hp6), Option.bind_some]
  refine ok2_l ?_
  refine ok_mono (movesX (I := I) (a := z + 810 + 269 * π m') (x := z + 2) (by omega) (fun h hh => und_door R hh)) ?_
  rintro J ⟨v1, v2, v3⟩
  rw [nm_eq, v2 z (by omega), e1, nI_add, jn_eq]
  refine ok2_forr 115 (fun i s => s.1 = nI i ∧ (∀ q, q < 115 * m' → s.2 2 q = μ 2 q) ∧ (∀ q, q < i → s.2 2 (115 * m' + q) = μ 1 q) ∧ ∀ k, k ≠ 2 → s.2 k = μ k) (by decide) ?_ ⟨rfl, fun _ _ => rfl, fun q h => by omega, fun _ _ => rfl⟩
  rintro again i ⟨_, ν⟩ hi' ⟨e, n1, n2, n3⟩ ih
  dsimp only at e n1 n2 n3 ⊢
  subst e
  rw [n3 3 (by decide), e2, pk_mul, nI_add, nI_add, nI_add]
  refine ok2_ir (fun c => ?_) (fun c => ?_)
  · have h115 := le_iff (by decide) (by omega) c
    rw [nm_eq]
    refine ok2_some ?_
    dsimp only
    have xz : ∀ q, q ≠ z → up2 J z 8 (nI (m' + 1)) q = J q := fun q hq => up2_k hq
    refine R.undo' (fun a h1 h2 => by rw [xz a h1, v2 a (by omega)]) (fun j hj => by rw [up2_ne (Or.inr hj), v2 z (by omega)]) (fun _ _ => rfl) (fun k h1 h2 => by rw [up2_k h2, n3 k h1]) ?_
    refine ⟨m' + 1, by omega, up2_same _ _ _ _, up2_same _ _ _ _, π, fun j => if j = m' + 1 then L m' else L j, hπ, hi, fun j hj => ?_, ?_, ?_⟩
    · have n7 : up2 ν 3 0 (nI (m' + 1)) 7 = μ 7 := by rw [up2_k (by decide), n3 7 (by decide)]
      have n8 : up2 ν 3 0 (nI (m' + 1)) 8 = μ 8 := by rw [up2_k (by decide), n3 8 (by decide)]
      have n22 : up2 ν 3 0 (nI (m' + 1)) 2 = ν 2 := up2_k (by decide)
      unfold SAV
      rw [n7, n8, n22]
      by_cases ej : j = m'
      · subst ej
        refine ⟨⟨fun i hi => ?_, fun h hh => ?_⟩, ?_, ?_⟩
        · have hb := xl_back hp6 rfl (mi_row hi) (z := z)
          rw [xz _ (by omega), v1 1 i (mi_row hi) (by decide) (by decide), n2 i (by omega), R.bor.br 1 i (mi_row hi)]
          exact ⟨rfl, R.bor.rgs i hi⟩
        · have a1 := v1 7 h (Or.inr (Or.inl ⟨rfl, hh⟩)) (by decide) (by decide)
          have a2 := v1 8 h (Or.inr (Or.inr (Or.inl ⟨rfl, hh⟩))) (by decide) (by decide)
          rw [R.bor.br 7 h (Or.inr (Or.inl ⟨rfl, hh⟩))] at a1
          rw [R.bor.br 8 h (Or.inr (Or.inr (Or.inl ⟨rfl, hh⟩)))] at a2
          rw [xz _ (by omega)]
          exact ⟨a1, a2⟩
        · dsimp only
          rw [if_neg (by omega), n2 2 (by omega)]; exact hL
        · dsimp only
          rw [if_neg (by omega), if_pos rfl]; exact Nat.le_refl _
      · obtain ⟨s1, s2, s3⟩ := hs j (by omega)
        have hpj := hπ j (by omega)
        have hne : π j ≠ π m' := fun e => ej (hi _ _ (by omega) hm e)
        refine ⟨⟨fun i hi => ?_, fun h hh => ?_⟩, ?_, ?_⟩
        · have hb := xl_in (b := z + 810 + 269 * π j) (mi_row hi)
          rw [xz _ (by omega), v2 _ (by omega), n1 _ (by omega)]
          exact s1.1 i hi
        · rw [xz _ (by omega), v2 _ (by omega)]
          exact s1.2 h hh
        · dsimp only
          rw [if_neg (by omega), n1 _ (by omega)]; exact s2
        · dsimp only
          rw [if_neg (by omega), if_neg (by omega)]; exact s3
    · dsimp only
      rw [if_pos rfl, up2_k (by decide), n3 1 (by decide)]; exact hL
    · dsimp only
      rw [if_pos rfl]; exact hL2
  · have hlt := nle_iff (by decide) (by omega) c
    rw [rd_eq (i := i) (by omega) (by decide), Option.bind_some, wr_eq (i := 115 * m' + i) (by omega) (by decide), Option.bind_some, n3 1 (by decide)]
    refine ih hlt _ ⟨rfl, fun q hq => ?_, fun q hq => ?_, fun k hk => by dsimp only; rw [up2_k hk]; exact n3 k hk⟩
    · dsimp only
      rw [up2_ne (by omega)]; exact n1 q hq
    · dsimp only
      by_cases e : q = i
      · subst e; rw [up2_same]
      · rw [up2_ne (by omega)]; exact n2 q (by omega)
theorem remembers2 (R : RR z kd P I μ) : ok2 (x0_remembers kd P I z) (m_keepsAhead μ) (fun r t => RR z kd r.1 r.2 t) := by
  obtain ⟨m, hm, e1, e2, π, L, hπ, hi, hs, hL, hL2⟩ := R.und
  unfold x0_remembers m_keepsAhead
  rw [jn_eq, jn_eq]
  by_cases c6 : m = 6
  · subst c6
    rw [if_pos e1, if_pos e2, pix_of (i := 0) (by decide) (by decide) (hπ 0 (by decide)).2 (R.K.kb _ (hπ 0 (by decide)).1), Option.bind_some, jn_eq, nm_eq, e1, e2]
    -- the rotation
    refine ok2_forl 5 (fun i s => s.1 = nI (i + 1) ∧ (∀ j, j < i → s.2 (z + 809) j = P (z + 809) (j + 1)) ∧ (∀ j, i ≤ j → s.2 (z + 809) j = P (z + 809) j) ∧ ∀ a, a ≠ z + 809 → s.2 a = P a) (by decide) ?_ ⟨rfl, fun j h => by omega, fun _ _ => rfl, fun _ _ => rfl⟩
    rintro again i ⟨_, Q⟩ hi5 ⟨e, p1, p2, p3⟩ ih
    dsimp only at e p1 p2 p3 ⊢
    subst e
    refine ok2_il (fun c => ?_) (fun c => ?_)
    · have := le_iff (by decide) (by omega) c
      have : i = 5 := by omega
      subst this
      rw [wrP_of (i := 5) (by decide) (by decide), Option.bind_some, nm_eq, nI_sub (by decide)]
      -- the model's rows
      refine ok2_forr 575 (fun i s => s.1 = nI i ∧ (∀ q, q < i → s.2 2 q = μ 2 (q + 115)) ∧ (∀ q, i ≤ q → s.2 2 q = μ 2 q) ∧ s.2 3 0 = nI 5 ∧ ∀ k, k ≠ 2 → k ≠ 3 → s.2 k = μ k) (by decide) ?_ ⟨rfl, fun q h => by omega, fun q _ => by dsimp only; rw [up2_k (by decide)], by dsimp only; rw [up2_same], fun k h2 h3 => by dsimp only; rw [up2_k h3]⟩
      rintro ag i ⟨_, ν⟩ hi' ⟨e, n1, n2, n3, n4⟩ ih2
      dsimp only at e n1 n2 n3 n4 ⊢
      subst e
      rw [nI_add, nI_add]
      refine ok2_ir (fun c => ?_) (fun c => ?_)
      · rw [n3, pk_mul] at c
        have := le_iff (by decide) (by omega) c
        have : i = 575 := by omega
        subst this
        have R5 : RR z kd (upP Q (z + 809) 5 (some (z + 810 + 269 * π 0))) (up2 I z 8 (nI (6 - 1))) ν := by
          refine R.undo' (fun a h1 _ => up2_k h1) (fun j hj => up2_ne (Or.inr hj)) (fun a ha => by rw [upP_k ha]; exact p3 a ha) n4 ?_
          refine ⟨5, by decide, up2_same _ _ _ _, n3, fun j => if j = 5 then π 0 else π (j + 1), fun j => L (j + 1), fun j hj => ?_, fun i j hi6 hj6 e => ?_, fun j hj => ?_, by rw [n4 1 (by decide) (by decide)]; exact hL, hL2⟩
          · dsimp only
            by_cases ej : j = 5
            · subst ej
              rw [if_pos rfl, upP_same]
              exact ⟨(hπ 0 (by decide)).1, rfl⟩
            · rw [if_neg ej, upP_ne (by omega), p1 j (by omega)]
              exact hπ (j + 1) (by omega)
          · dsimp only at e
            by_cases ei : i = 5
            · by_cases ej : j = 5
              · omega
              · rw [if_pos ei, if_neg ej] at e
                have := hi 0 (j + 1) (by decide) (by omega) e
                omega
            · by_cases ej : j = 5
              · rw [if_neg ei, if_pos ej] at e
                have := hi (i + 1) 0 (by omega) (by decide) e
                omega
              · rw [if_neg ei, if_neg ej] at e
                have := hi (i + 1) (j + 1) (by omega) (by omega) e
                omega
          · obtain ⟨s1, s2, s3⟩ := hs (j + 1) (by omega)
            have hp := (hπ (j + 1) (by omega)).1
            dsimp only
            rw [if_neg (by omega)]
            refine ⟨⟨fun i hi => ?_, fun h hh => ?_⟩, ?_, s3⟩
            · have hb := xl_back hp rfl (mi_row hi) (z := z)
              rw [up2_k (by omega), n1 _ (by omega), show 115 * j + i + 115 = 115 * (j + 1) + i by omega]
              exact s1.1 i hi
            · rw [up2_k (by omega), n4 7 (by decide) (by decide), n4 8 (by decide) (by decide)]
              exact s1.2 h hh
            · rw [n1 _ (by omega), show 115 * j + 2 + 115 = 115 * (j + 1) + 2 by omega]
              exact s2
        exact push2 R5 (m := 5) (by decide) (up2_same _ _ _ _) n3
      · rw [n3, pk_mul] at c
        have hlt := nle_iff (by decide) (by omega) c
        rw [rd_eq (i := i + 115) (by omega) (by decide), Option.bind_some, wr_eq (i := i) (by omega) (by decide), Option.bind_some, n2 _ (by omega)]
        refine ih2 (by omega) _ ⟨rfl, fun q hq => ?_, fun q hq => ?_, by dsimp only; rw [up2_k (by decide)]; exact n3, fun k h2 h3 => by dsimp only; rw [up2_k h2]; exact n4 k h2 h3⟩
        · dsimp only
          by_cases e : q = i
          · subst e; rw [up2_same]
          · rw [up2_ne (Or.inr e)]; exact n1 q (by omega)
        · dsimp only
          rw [up2_ne (by omega)]; exact n2 q (by omega)
    · have hlt := nle_iff (by decide) (by omega) c
      have hpi := hπ (i + 1) (by omega)
      rw [pix_of (i := i + 1) (by omega) (by decide) (by rw [p2 _ (by omega)]; exact hpi.2) (R.K.kb _ hpi.1), Option.bind_some, nI_sub (by omega), Nat.add_sub_cancel, wrP_of (i := i) (by omega) (by decide), Option.bind_some, nI_add]
      refine ih (by omega) _ ⟨rfl, fun j hj => ?_, fun j hj => ?_, fun a ha => by dsimp only; rw [upP_k ha]; exact p3 a ha⟩
      · dsimp only
        by_cases e : j = i
        · subst e; rw [upP_same, hpi.2]
        · rw [upP_ne (by omega)]; exact p1 j (by omega)
      · dsimp only
        rw [upP_ne (by omega)]; exact p2 j (by omega)
  · rw [if_neg (by rw [e1, nI_eq (by omega) (by decide)]; exact c6), if_neg (by rw [e2, nI_eq (by omega) (by decide)]; exact c6)]
    exact push2 R (by omega) e1 e2
theorem c_undo (R : RR z kd P I μ) : ok2 (x0_undo kd P I z) (m_undo μ) (fun r t => r.1 = t.1 ∧ RR z kd P r.2 t.2) := by
  have R' := R.t0 (nI 0)
  unfold x0_undo m_undo
  simp only [nm_eq]
  generalize hν : up2 μ 0 0 (nI 0) = ν at *
  obtain ⟨m, hm, e1, e2, π, L, hπ, hi, hs, hL, hL2⟩ := R'.und
  rw [e1, e2]
  refine ok2_ii Iff.rfl (fun _ _ => ok2_some ⟨rfl, R'⟩) (fun c _ => ?_)
  have hm0 : m ≠ 0 := fun e => c (by rw [e]; rfl)
  obtain ⟨p, rfl⟩ : ∃ p, m = p + 1 := ⟨m - 1, by omega⟩
  rw [nI_sub (by omega), Nat.add_sub_cancel, up2_same]
  obtain ⟨hp6, hpP⟩ := hπ p (by omega)
  obtain ⟨s1, s2, s3⟩ := hs p (by omega)
  rw [pix_of (i := p) (by omega) (by decide) hpP (R'.K.kb _ hp6), Option.bind_some]
  refine ok2_l ?_
  refine ok_mono (movesX (I := up2 I z 8 (nI p)) (a := z + 2) (x := z + 810 + 269 * π p) (by omega) (fun h hh => ?_)) ?_
  · rw [up2_k (by omega)]
    have := s1.1 (91 + h) (by omega)
    rw [xl_door hh] at this
    rw [this.1]
    exact this.2.2.1 (by omega) (by omega)
  rintro J ⟨v1, v2, v3⟩
  refine ok2_forr 115 (fun i s => s.1 = nI i ∧ (∀ q, q < i → s.2 1 q = ν 2 (115 * p + q)) ∧ s.2 3 0 = nI p ∧ ∀ k, k ≠ 1 → k ≠ 3 → s.2 k = ν k) (by decide) ?_ ⟨rfl, fun q h => by omega, by dsimp only; rw [up2_same], fun k _ h3 => by dsimp only; rw [up2_k h3]⟩
  rintro again i ⟨_, ν'⟩ hi' ⟨e, n1, n2, n3⟩ ih
  dsimp only at e n1 n2 n3 ⊢
  subst e
  rw [n2, pk_mul, nI_add, nI_add]
  refine ok2_ir (fun c => ?_) (fun c => ?_)
  · have := le_iff (by decide) (by omega) c
    have : i = 115 := by omega
    subst this
    refine ok2_some ⟨rfl, ?_⟩
    dsimp only
    have xz : ∀ q, q ≠ z → up2 I z 8 (nI p) q = I q := fun q hq => up2_k hq
    have xb : ∀ q, ¬ (q = z ∨ q = z + 2 ∨ (z + 247 ≤ q ∧ q < z + 271)) → J q = I q := fun q hq => by rw [v2 q (by omega), xz q (by omega)]
    have Jz : ∀ j, j ≠ 8 → J z j = I z j := fun j hj => by rw [v2 z (by omega), up2_ne (Or.inr hj)]
    have e74 : vw ν' = vw ν := vw_eq (n3 74 (by decide) (by decide))
    have hr3 : ∀ {k i : Nat}, rki k i → k ≠ 3 := fun h e => by subst e; exact absurd h (Nat.not_lt_zero _)
    have hM : KEEP z kd kd P P I J := fun a _ ha => ⟨xb a (by unfold IMM at ha; omega), rfl, rfl⟩
    have hl' : ν' 1 2 = nI (L p) := by rw [n1 2 (by decide)]; exact s2
    have br : BR J (z + 2) ν' := by
      intro k i hmi
      by_cases h1 : k = 1
      · subst h1
        have hi : i < 115 := by unfold mi at hmi; omega
        have hb := xl_back hp6 rfl hmi (z := z)
        rw [v1 1 i hmi (by decide) (by decide), xz _ (by omega), (s1.1 i hi).1, n1 i hi]
      · by_cases h5 : k = 5 ∨ k = 6
        · have hi0 : i = 0 := by unfold mi at hmi; omega
          have hx : xl (z + 2) k i = (z + 2, if k = 5 then 23 else 14) := by
            rcases h5 with rfl | rfl <;> subst hi0 <;> rfl
          have := R'.bor.br k i hmi
          rw [hx] at this ⊢
          rw [v3 _ (by dsimp only; split <;> omega), xz _ (by omega), this, n3 k h1 (by omega)]
        · rw [v1 k i hmi (by omega) (by omega), n3 k h1 (by unfold mi at hmi; omega)]
          have h78 : (k = 7 ∨ k = 8) ∧ i < 12 := by unfold mi at hmi; omega
          rw [xz _ (by have := xl_in (b := z + 810 + 269 * π p) hmi; omega)]
          rcases h78.1 with rfl | rfl
          · exact (s1.2 i h78.2).1
          · exact (s1.2 i h78.2).2
    refine ⟨R'.K, R'.bor.own R'.K br (fun i hi => by rw [n1 i hi]; exact (s1.1 i hi).2) (fun l' hl'' e => ?_) (by rw [n3 6 (by decide) (by decide)]; exact R'.bor.n6) (fun a h1 h2 => xb a (by omega)) (by rw [v3 22 (by decide), xz _ (by omega)]) hM (fun k i hk h1 h6 h7 h8 => by rw [n3 k h1 (hr3 hk)]), ?_, by rw [xb (z + 540) (by omega)]; exact R'.th, by rw [xb (z + 271) (by omega)]; exact R'.tk, ?_, ?_, ?_, fun t h1 h2 h3 => by rw [xb (z + 2462) (by omega)]; exact R'.memo t h1 h2 h3, by rw [n3 69 (by decide) (by decide)]; exact R'.w69, fun i hi => by rw [n3 16 (by decide) (by decide)]; exact R'.wrd i hi⟩
    · rw [hl', nI_eq (by omega) (by omega)] at e
      exact ⟨L (p + 1), hL2, by omega, hL⟩
    · rcases R'.img with ⟨a, b⟩ | ⟨a, b, c⟩
      · exact Or.inl ⟨by rw [Jz 9 (by decide)]; exact a, by rw [n3 72 (by decide) (by decide)]; exact b⟩
      · refine Or.inr ⟨by rw [Jz 9 (by decide)]; exact a, by rw [n3 72 (by decide) (by decide)]; exact b, ?_⟩
        exact c.cong R'.K (fun a h1 h2 => xb a (by omega)) (fun j _ => by rw [xb (z + 271) (by omega)]) hM (fun j _ => rfl) (fun k i h => by rw [e74])
    · refine ⟨p, by omega, by rw [v2 z (by omega), up2_same], n2, π, L, hπ, hi, fun j hj => ?_, hl', by omega⟩
      obtain ⟨t1, t2, t3⟩ := hs j (by omega)
      have hpj := (hπ j (by omega)).1
      refine ⟨⟨fun i hi => ?_, fun h hh => ?_⟩, by rw [n3 2 (by decide) (by decide)]; exact t2, t3⟩
      · have hb := xl_back hpj rfl (mi_row hi) (z := z)
        rw [xb _ (by omega), n3 2 (by decide) (by decide)]
        exact t1.1 i hi
      · rw [xb _ (by omega), n3 7 (by decide) (by decide), n3 8 (by decide) (by decide)]
        exact t1.2 h hh
    · obtain ⟨t, ht, a, b, c⟩ := R'.tap
      refine ⟨t, ht, by rw [Jz 1 (by decide)]; exact a, by rw [n3 11 (by decide) (by decide)]; exact b, fun i hi => ?_⟩
      rw [xb (z + 1) (by omega), n3 10 (by decide) (by decide)]
      exact c i hi
    · rw [Jz 2 (by decide), Jz 3 (by decide), n3 31 (by decide) (by decide), n3 32 (by decide) (by decide)]
      exact R'.flt
  · have hlt := nle_iff (by decide) (by omega) c
    rw [rd_eq (i := 115 * p + i) (by omega) (by decide), Option.bind_some, wr_eq (i := i) (by omega) (by decide), Option.bind_some, n3 2 (by decide) (by decide)]
    refine ih hlt _ ⟨rfl, fun q hq => ?_, by dsimp only; rw [up2_k (by decide)]; exact n2, fun k h1 h3 => by dsimp only; rw [up2_k h1]; exact n3 k h1 h3⟩
    dsimp only
    by_cases e : q = i
    · subst e; rw [up2_same]
    · rw [up2_ne (Or.inr e)]; exact n1 q (by omega)
end MOVE
