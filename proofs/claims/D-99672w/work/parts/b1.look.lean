/-! ===== the calls, with what both objects are ===== -/
theorem nI0_iff {x : Int32} : x = nI 0 ↔ x = 0 := by rw [nI_0]
section LOOK
variable {z : Nat} {kd : Kd} {P : Ptr} {I μ : Mem}
theorem c_fault (R : RR z kd P I μ) (x : Int32) : ok2 (x0_fault I z x) (m_fault μ x) (fun r t => r = t.1 ∧ RR z kd P I t.2) := by
  unfold x0_fault m_fault
  rw [nm_eq, up2_k (by decide), up2_k (by decide)]
  refine ok2_ii Iff.rfl (fun _ _ => ok2_some ⟨R.flt.1, R.t0 _⟩) (fun _ _ => ?_)
  exact ok2_ii Iff.rfl (fun _ _ => ok2_some ⟨R.flt.2, R.t0 _⟩) (fun _ _ => ok2_some ⟨rfl, R.t0 _⟩)
theorem c_book (R : RR z kd P I μ) (x1 x2 : Int32) : ok2 (x0_book I z x1 x2) (m_book μ x1 x2) (fun r t => r = t.1 ∧ RR z kd P I t.2) := by
  obtain ⟨l, hl, el⟩ := R.bor.st.lines
  unfold x0_book m_book
  rw [nm_eq, rd_eq (i := 2) (by decide) (by decide), Option.bind_some, isIn_x, isIn_m, Option.bind_some, Option.bind_some, isIn_x, isIn_m, Option.bind_some, Option.bind_some, R.bor.br.lines, up2_k (by decide), el]
  refine ok2_ii Iff.rfl (fun _ _ => ok2_some ⟨rfl, R.t0 _⟩) (fun c1 _ => ?_)
  have h1 := of_decide_eq_true (sd_bI c1)
  refine ok2_ii Iff.rfl (fun _ _ => ok2_some ⟨rfl, R.t0 _⟩) (fun c2 _ => ?_)
  have h2 := of_decide_eq_true (sd_bI c2)
  obtain ⟨w, _, hw, rfl⟩ := in_nI (by decide) (by decide) h2
  have hl0 : 1 ≤ l := by
    rcases Nat.eq_zero_or_pos l with e | e
    · subst e
      have := (fa_le _ _).mp (Int32.le_trans h1.1 h1.2)
      exact absurd this (by decide)
    · exact e
  rw [nI_sub hl0] at h1
  obtain ⟨i, _, hi, rfl⟩ := in_nI (by decide) (by omega) h1
  rw [ix_eq (i := i) (by omega) (by decide), Option.bind_some, rd_eq (i := w) (by omega) (by decide), Option.bind_some, pk_mul, nI_add, rd_eq (i := 4 * i + w) (by omega) (by decide), Option.bind_some, up2_k (by decide)]
  refine ok2_some ⟨?_, R.t0 _⟩
  have := R.bor.bk l hl el i w (by omega) (by omega)
  rwa [show z + 2 + 3 + i = z + 5 + i by omega] at this
theorem c_look (R : RR z kd P I μ) (x : Int32) : ok2 (x0_look kd P I z x) (m_look μ x) (fun r t => r = t.1 ∧ RR z kd P I t.2) := by
  obtain ⟨lw, cl, sk, cs, of, co, nt, p0, p1, p2, p3, L⟩ := R.bor.lws
  obtain ⟨n, hn, en⟩ := R.bor.n6
  have R' := R.t0 (nI 0)
  have n1 : up2 μ 0 0 (nI 0) 1 = μ 1 := up2_k (by decide)
  unfold x0_look m_look j2_size
  rw [nm_eq, rd_eq (i := 3) (by decide) (by decide), rd_eq (i := 4) (by decide) (by decide), rd_eq (i := 5) (by decide) (by decide), rd_eq (i := 6) (by decide) (by decide), rd_eq (i := 0) (by decide) (by decide), rd_eq (i := 2) (by decide) (by decide), rd_eq (i := 1) (by decide) (by decide), rd_eq (i := 0) (by decide) (by decide), n1]
  have go : ∀ {a b : Int32}, a = b → ok2 (some a) (some (b, up2 μ 0 0 (nI 0))) (fun r t => r = t.1 ∧ RR z kd P I t.2) := fun e => ok2_some ⟨e, R'⟩
  refine ok2_ii nI0_iff (fun _ _ => go (by rw [up2_k (by decide)]; exact R.bor.br.houses)) (fun _ _ => ?_)
  refine ok2_ii Iff.rfl (fun _ _ => go R.bor.br.rain) (fun _ _ => ?_)
  refine ok2_ii Iff.rfl (fun _ _ => go R.bor.br.frost) (fun _ _ => ?_)
  refine ok2_ii Iff.rfl (fun _ _ => go R.bor.br.eaten) (fun _ _ => ?_)
  refine ok2_ii Iff.rfl (fun _ _ => go R.bor.br.gnawed) (fun _ _ => ?_)
  refine ok2_ii Iff.rfl (fun _ _ => go R.bor.br.quarter) (fun _ _ => ?_)
  refine ok2_ii Iff.rfl (fun _ _ => ?_) (fun _ _ => ?_)
  · have en' : up2 μ 0 0 (nI 0) 6 0 = nI n := by rw [up2_k (by decide)]; exact en
    rw [bss R'.bor.br hn en', standing_m hn en', Option.bind_some, Option.bind_some]
    exact go rfl
  refine ok2_ii Iff.rfl (fun _ _ => go R.bor.br.lines) (fun _ _ => ?_)
  refine ok2_ii Iff.rfl (fun _ _ => go R.bor.br.state) (fun _ _ => ?_)
  refine ok2_ii Iff.rfl (fun _ _ => ?_) (fun _ _ => ?_)
  · rw [pk_of p0 L.ll.2.1, Option.bind_some, Option.bind_some]
    exact go (by rw [up2_k (by decide), L.lm]; exact L.ll.2.2.1)
  refine ok2_ii Iff.rfl (fun _ _ => ?_) (fun _ _ => ?_)
  · rw [pk_of p1 L.sl.2.1, Option.bind_some, Option.bind_some]
    exact go (by rw [up2_k (by decide), L.sm]; exact L.sl.2.2.1)
  refine ok2_ii Iff.rfl (fun _ _ => ?_) (fun _ _ => ?_)
  · rw [pk_of p2 L.ol.2.1, Option.bind_some, Option.bind_some]
    exact go (by rw [up2_k (by decide), L.om]; exact L.ol.2.2.1)
  refine ok2_ii Iff.rfl (fun _ _ => go (by rw [up2_k (by decide)]; exact R.bor.nl)) (fun _ _ => ?_)
  refine ok2_ii Iff.rfl (fun _ _ => go ?_) (fun _ _ => go rfl)
  obtain ⟨m, _, e1, e2, _⟩ := R.und
  rw [up2_k (by decide), e1, e2]
theorem c_of (R : RR z kd P I μ) (x1 x2 : Int32) : ok2 (x0_of kd P I z x1 x2) (m_of μ x1 x2) (fun r t => r.1 = t.1 ∧ RR z kd r.2.1 r.2.2 t.2) := by
  have R' := R.t0 (nI 0)
  obtain ⟨lw, cl, sk, cs, of, co, nt, n, A, B, W, hnt⟩ := R'.all
  have T := TL_of W
  have S := R'.bor.st
  have hn := A.hn
  have eh : I (z + 2) 14 = nI n := by rw [S.br.houses, A.hm]
  unfold x0_of m_of
  rw [nm_eq]
  simp only [isIn_x, isIn_m, Option.bind_some]
  generalize hν : up2 μ 0 0 (nI 0) = ν at *
  have no : ∀ {a b : Int32}, a = b → ok2 (some (a, P, I)) (some (b, ν)) (fun r t => r.1 = t.1 ∧ RR z kd r.2.1 r.2.2 t.2) := fun e => ok2_some ⟨e, R'⟩
  rcases isHouse2 hn eh A.hm x1 with ⟨h, hh, rfl, q1, q2⟩ | ⟨q1, q2⟩
  · have h12 : h < 12 := by omega
    have ea : x0_at I z (nI h) = some (z + 247 + 2 * h) := by
      unfold x0_at
      rw [ix_eq (i := h) h12 (by decide), Option.bind_some]
    have eb : z + 247 + 2 * h = z + 2 + 245 + 2 * h := by omega
    have tq : ∀ {o : Option (Int32 × Ptr × Mem)} {p : Option (Int32 × Mem)} {m : Nat}, ok2 o p (TQ (z + 2) P I ν ν m) → ok2 (o.bind fun r => some (r.1, r.2.1, r.2.2)) (p.bind fun r => some (r.1, r.2)) (fun r t => r.1 = t.1 ∧ RR z kd r.2.1 r.2.2 t.2) := fun h => ok2_b h (fun r t q => ok2_some ⟨q.1, R'.step q.2.2.1⟩)
    rw [q1, q2, Option.bind_some, Option.bind_some, if_neg bT, if_neg bT, ea, Option.bind_some]
    by_cases c20 : nI 20 ≤ x2 ∧ x2 ≤ nI 23
    · obtain ⟨w, w1, w2, rfl⟩ := in_nI (by decide) (by decide) c20
      rw [decide_eq_true c20, if_neg bT, decide_eq_false (fun q => absurd (le_iff (by omega) (by decide) q.2) (by omega)), if_pos bF, if_neg bT, nI_sub (by omega), eb]
      exact tq ((T P I ν S h h12).2.1 (w - 20) (by omega))
    · rw [decide_eq_false c20, if_pos bF]
      by_cases c30 : nI 30 ≤ x2 ∧ x2 ≤ nI 33
      · obtain ⟨w, w1, w2, rfl⟩ := in_nI (by decide) (by decide) c30
        rw [decide_eq_true c30, if_neg bT, decide_eq_false (fun q => absurd (le_iff (by omega) (by decide) q.2) (by omega)), if_pos bF, if_pos bF, if_neg bT, nI_sub (by omega), eb]
        exact tq ((T P I ν S h h12).2.2 (w - 30) (by omega))
      · rw [decide_eq_false c30, if_pos bF]
        by_cases c3 : nI 0 ≤ x2 ∧ x2 ≤ nI 3
        · obtain ⟨w, w1, w2, rfl⟩ := in_nI (by decide) (by decide) c3
          rw [decide_eq_true c3, if_neg bT, wallOf_m ν h12 (by omega), Option.bind_some, rd_eq (i := w) (by omega) (by decide), Option.bind_some, eb, bwl S.br h12 (by omega)]
          have : w = 0 ∨ w = 1 ∨ w = 2 ∨ w = 3 := by omega
          rcases this with rfl | rfl | rfl | rfl
          · rw [if_pos rfl]; exact no rfl
          · rw [if_neg (by decide), if_pos rfl]; exact no rfl
          · rw [if_neg (by decide), if_neg (by decide), if_pos rfl]; exact no rfl
          · rw [if_neg (by decide), if_neg (by decide), if_neg (by decide), if_pos rfl]; exact no rfl
        · rw [decide_eq_false c3, if_pos bF, if_pos bF, if_pos bF, if_neg (by rintro rfl; exact c3 (by decide)), if_neg (by rintro rfl; exact c3 (by decide)), if_neg (by rintro rfl; exact c3 (by decide)), if_neg (by rintro rfl; exact c3 (by decide)), nI_add, nI_add, nI_add, nI_add, nI_add, rd_eq (i := h) h12 (by decide), rd_eq (i := h) h12 (by decide), rd_eq (i := 55 + h) (by omega) (by decide), rd_eq (i := 79 + h) (by omega) (by decide), rd_eq (i := 67 + h) (by omega) (by decide), rd_eq (i := 91 + h) (by omega) (by decide), rd_eq (i := 103 + h) (by omega) (by decide), rd_eq (i := h) (show h < 24 by omega) (by decide), eb]
          refine ok2_ii Iff.rfl (fun _ _ => no (S.br.almonds h12)) (fun _ _ => ?_)
          refine ok2_ii Iff.rfl (fun _ _ => no (S.br.teeth h12)) (fun _ _ => ?_)
          refine ok2_ii Iff.rfl (fun _ _ => no (S.br.hard h12)) (fun _ _ => ?_)
          refine ok2_ii Iff.rfl (fun _ _ => no (S.br.lodgers h12)) (fun _ _ => ?_)
          refine ok2_ii Iff.rfl (fun _ _ => no (S.br.icing h12)) (fun _ _ => ?_)
          refine ok2_ii Iff.rfl (fun _ _ => ?_) (fun _ _ => ?_)
          · rw [S.br.door h12, Option.bind_some]
            rcases (S.rgs (91 + h) (by omega)).2.1 (by omega) (by omega) with e | e
            · rw [e]; exact ok2_tl nI_0 (no rfl)
            · rw [e]; exact ok2_fl (by decide) (no rfl)
          refine ok2_ii Iff.rfl (fun _ _ => no (S.br.age h12)) (fun _ _ => ?_)
          refine ok2_ii Iff.rfl (fun _ _ => tq (T P I ν S h h12).1) (fun _ _ => ?_)
          refine ok2_ii Iff.rfl (fun _ _ => ?_) (fun _ _ => no rfl)
          rw [A.pk S, Option.bind_some, rd_eq (i := h) h12 (by decide), Option.bind_some, Option.bind_some]
          exact no (A.nx S h12)
  · rw [q1, q2, Option.bind_some, Option.bind_some, if_pos bF, if_pos bF]
    exact no rfl
end LOOK
