/-! ===== the lists of a borough; who leaves while others grow old ===== -/
def LST (kd : Kd) (P : Ptr) (I : Mem) (ls c : Nat) (E : Nat → Nat → Prop) : Prop := kd ls = (18, 0, 0) ∧ I ls 2 = nI c ∧ c ≤ 16 ∧ ∀ i, i < c → ∃ ar e, P ls 1 = some ar ∧ (kd ar).1 = 25 ∧ c ≤ (kd ar).2.1 ∧ (kd ar).2.1 < 2 ^ 31 ∧ P ar i = some e ∧ E i e
theorem LST.get {kd : Kd} {P : Ptr} {I : Mem} {ls c : Nat} {E : Nat → Nat → Prop} (L : LST kd P I ls c E) {i : Nat} (hi : i < c) : ∃ e, j2_get kd P I ls (nI i) = some e ∧ E i e := by
  obtain ⟨_, h2, h3, h4⟩ := L
  obtain ⟨ar, e, a1, a2, a3, a4, a5, a6⟩ := h4 i hi
  refine ⟨e, ?_, a6⟩
  unfold j2_get j5_checkIndex j6_checkIndex j2_elementData
  rw [h2]
  dsimp only [jn]
  rw [if_neg (nI_pos (by omega)), if_pos (nI_lt hi (by omega)), Option.bind_some, Option.bind_some]
  have : pkk kd (P ls 1) 25 = some ar := by
    rw [a1]
    unfold pkk
    exact if_pos a2
  rw [this, Option.bind_some]
  unfold pio
  rw [ix_eq (by omega) a4, Option.bind_some, a5]
  rfl
def EA (μ ν : Mem) : Prop := ∀ k i, ¬ (k = 1 ∧ 103 ≤ i) → ν k i = μ k i
def OF (μ μ' : Mem) : Prop := ∀ i, i ≠ 2 → ¬ (79 ≤ i ∧ i < 91) → μ' 1 i = μ 1 i
theorem EA.set {μ ν : Mem} (h : EA μ ν) (k i : Nat) (x : Int32) : EA (up2 μ k i x) (up2 ν k i x) := by
  intro k' i' hn
  by_cases e : k' = k ∧ i' = i
  · obtain ⟨rfl, rfl⟩ := e
    rw [up2_same, up2_same]
  · rw [up2_ne (by omega), up2_ne (by omega)]
    exact h k' i' hn
theorem wl_cong {μ ν : Mem} {h : Nat} (e : ∀ i, 7 ≤ i → i < 55 → ν 1 i = μ 1 i) (hh : h < 12) : sd ν h = sd μ h := by
  unfold sd sm wl
  rw [e _ (by omega) (by omega), e _ (by omega) (by omega), e _ (by omega) (by omega), e _ (by omega) (by omega)]
theorem EA.sd {μ ν : Mem} (h : EA μ ν) {g : Nat} (hg : g < 12) : sd ν g = sd μ g := wl_cong (fun i h1 h2 => h 1 i (by omega)) hg
theorem notes_age {μ ν : Mem} (h : EA μ ν) {l : Nat} (hl : l ≤ 150) (el : μ 1 2 = nI l) (k x y : Int32) : ok2 (m_notes μ k x y) (m_notes ν k x y) (fun μ' ν' => EA μ' ν' ∧ OF μ μ' ∧ OF ν ν' ∧ μ' 6 = μ 6) := by
  have : ok2 (m_notes μ k x y) (m_notes ν k x y) (fun μ' ν' => EA μ' ν') := by
    unfold m_notes
    rw [h 5 0 (by omega)]
    refine ok2_ii Iff.rfl (fun _ _ => ?_) (fun _ _ => ok2_some h)
    rw [rd_eq (μ := μ) (k := 1) (i := 2) (by decide) (by decide), rd_eq (μ := ν) (k := 1) (i := 2) (by decide) (by decide), Option.bind_some, Option.bind_some, h 1 2 (by omega)]
    refine ok2_ii Iff.rfl (fun _ _ => ok2_some h) (fun hne _ => ?_)
    rw [el] at hne
    have hl2 : l < 150 := by
      rcases Nat.lt_or_ge l 150 with h | h
      · exact h
      · exact absurd (by rw [show l = 150 by omega]) hne
    rw [el]
    simp (disch := omega) only [jn, nm, Option.bind_some, nI_add, pk_mul, rd_eq, wr_eq, ix_eq, h 1 0 (by omega)]
    refine ok2_some ?_
    have e1 : ∀ q : Mem, ∀ a c d f : Int32, up2 (up2 (up2 (up2 q 9 (4 * l) a) 9 (4 * l + 1) c) 9 (4 * l + 2) d) 9 (4 * l + 3) f 1 2 = q 1 2 := fun q a c d f => by simp (disch := omega) only [up2_same, up2_ne]
    rw [e1, e1, h 1 2 (by omega)]
    exact ((((h.set _ _ _).set _ _ _).set _ _ _).set _ _ _).set _ _ _
  obtain ⟨μ', ν', h1, h2, h3⟩ := this
  exact ⟨μ', ν', h1, h2, h3, fun i hi _ => (notes_m_fr h1).1 i hi, fun i hi _ => (notes_m_fr h2).1 i hi, (notes_m_fr h1).2 6 (by decide) (by decide)⟩
theorem go_age {μ ν : Mem} (h : EA μ ν) {l g : Nat} (hl : l ≤ 150) (el : μ 1 2 = nI l) (hg : g < 12) {t : Int32} (ht : t = -1 ∨ ∃ j, j < 12 ∧ t = nI j) : ok2 (m_lodgersGo μ (nI g) t) (m_lodgersGo ν (nI g) t) (fun μ' ν' => EA μ' ν' ∧ OF μ μ' ∧ OF ν ν') := by
  unfold m_lodgersGo
  refine ok2_b (notes_age h hl el _ _ _) (fun μ1 ν1 hh => ?_)
  obtain ⟨h1, o1, o2, _⟩ := hh
  rcases ht with rfl | ⟨j, hj, rfl⟩
  · simp (disch := omega) only [jn, nm, Option.bind_some, nI_add, pk_mul, rd_eq, wr_eq, ix_eq, if_true]
    exact ok2_some ⟨h1.set _ _ _, fun i q1 q2 => by rw [up2_ne (by omega)]; exact o1 i q1 q2, fun i q1 q2 => by rw [up2_ne (by omega)]; exact o2 i q1 q2⟩
  · simp (disch := omega) only [jn, nm, Option.bind_some, nI_add, pk_mul, rd_eq, wr_eq, ix_eq, if_neg (nI_ne_m1 (show j < 2 ^ 31 by omega))]
    refine ok2_some ⟨?_, fun i q1 q2 => by rw [up2_ne (by omega), up2_ne (by omega)]; exact o1 i q1 q2, fun i q1 q2 => by rw [up2_ne (by omega), up2_ne (by omega)]; exact o2 i q1 q2⟩
    have e1 : ν1 1 (79 + g) = μ1 1 (79 + g) := h1 1 _ (by omega)
    have h2 := h1.set 1 (79 + g) (nI 0)
    have e2 : up2 ν1 1 (79 + g) (nI 0) 1 (79 + j) = up2 μ1 1 (79 + g) (nI 0) 1 (79 + j) := h2 1 _ (by omega)
    rw [e1, e2]
    exact h2.set _ _ _
theorem out_age {μ ν : Mem} (h : EA μ ν) {l g n m : Nat} (hl : l ≤ 150) (el : μ 1 2 = nI l) (hg : g < 12) (hn : n ≤ 12) (en : μ 6 0 = nI n) (em : μ 38 g = nI m) (hm : m < 4096) : ok2 (m_areOut μ (nI g)) (m_areOut ν (nI g)) (fun μ' ν' => EA μ' ν' ∧ OF μ μ' ∧ OF ν ν') := by
  unfold m_areOut
  rw [stand_m μ hg, stand_m ν hg, h.sd hg, Option.bind_some, Option.bind_some]
  refine ok2_ii Iff.rfl (fun c _ => ?_) (fun _ _ => ok2_some ⟨h, fun _ _ _ => rfl, fun _ _ _ => rfl⟩)
  rw [nI_add, rd_eq (μ := μ) (k := 1) (i := 79 + g) (by omega) (by decide), rd_eq (μ := ν) (k := 1) (i := 79 + g) (by omega) (by decide), Option.bind_some, Option.bind_some, h 1 (79 + g) (by omega)]
  refine ok2_ii Iff.rfl (fun c _ => ok2_some ⟨h, fun _ _ _ => rfl, fun _ _ _ => rfl⟩) (fun _ _ => ?_)
  rw [h 6 0 (by omega), en]
  refine ok2_nl (ok2_nr ?_)
  refine ok2_jj (fun t t' => t = t' ∧ (t = -1 ∨ ∃ j, j < 12 ∧ t = nI j)) ?_ ?_
  · rintro t t' ⟨rfl, ht⟩
    rw [bind_sm, bind_sm]
    exact go_age h hl el hg ht
  · intro k k' hk
    refine ok2_lp (fun s s' => s = s' ∧ (∃ j, j ≤ n ∧ s.2 = nI j + (-1)) ∧ (s.1 = -1 ∨ ∃ j, j < 12 ∧ s.1 = nI j)) (fun s => (s.2 + 1).toNatClampNeg) ?_ fuel fuel _ _ ⟨rfl, ⟨n, Nat.le_refl _, nI_sub1 n⟩, Or.inl rfl⟩ ?_ ?_
    · rintro again again' ⟨s1, s2⟩ s' ⟨rfl, ⟨j, hj, e2⟩, hc⟩ ih
      dsimp only at e2 hc ih ⊢
      subst e2
      cases j with
      | zero =>
        rw [if_pos m1_neg, if_pos m1_neg]
        exact hk _ _ ⟨rfl, hc⟩
      | succ j =>
        have me : (nI j + (-1) + 1).toNatClampNeg < (nI (j + 1) + (-1) + 1).toNatClampNeg := by
          rw [m1_1, m1_1, nI_clamp (by omega), nI_clamp (by omega)]
          omega
        have go : ∀ t : Int32, (t = -1 ∨ ∃ j, j < 12 ∧ t = nI j) → ok2 (again (t, nI j + (-1))) (again' (t, nI j + (-1))) (fun μ' ν' => EA μ' ν' ∧ OF μ μ' ∧ OF ν ν') := fun t ht => ih (t, nI j + (-1)) _ ⟨rfl, ⟨j, by omega, rfl⟩, ht⟩ me
        rw [nI_m1, if_neg (nI_pos (by omega)), if_neg (nI_pos (by omega)), rd_eq (by omega) (by decide), rd_eq (by omega) (by decide), Option.bind_some, Option.bind_some, h 38 g (by omega), em, has_m μ hm (by omega), has_m ν hm (by omega), Option.bind_some, Option.bind_some]
        refine ok2_ii Iff.rfl (fun _ _ => go _ hc) (fun _ _ => ?_)
        rw [stand_m μ (by omega), stand_m ν (by omega), h.sd (by omega), Option.bind_some, Option.bind_some]
        exact ok2_ii Iff.rfl (fun _ _ => go _ hc) (fun _ _ => go _ (Or.inr ⟨j, by omega, rfl⟩))
    · show (nI n - nI 1 + 1).toNatClampNeg < 20000
      rw [nI_sub1, m1_1, nI_clamp (by omega)]
      omega
    · show (nI n - nI 1 + 1).toNatClampNeg < 20000
      rw [nI_sub1, m1_1, nI_clamp (by omega)]
      omega
/-- some have grown a quarter older -/
def AGE (ν : Mem) (h : Nat) : Mem := fun k i => if k = 1 ∧ 103 ≤ i ∧ i < 103 + h ∧ sd ν (i - 103) = true then imin (nI 9999) (ν 1 i + nI 1) else ν k i
theorem AGE_0 (ν : Mem) : AGE ν 0 = ν := by
  funext k i
  exact if_neg (by omega)
theorem AGE_EA (ν : Mem) (h : Nat) : EA ν (AGE ν h) := fun k i hn => if_neg (by omega)
theorem AGE_s (ν : Mem) {h : Nat} (hs : sd ν h = true) : up2 (AGE ν h) 1 (103 + h) (imin (nI 9999) (ν 1 (103 + h) + nI 1)) = AGE ν (h + 1) := by
  funext k i
  by_cases e : k = 1 ∧ i = 103 + h
  · obtain ⟨rfl, rfl⟩ := e
    rw [up2_same]
    unfold AGE
    rw [if_pos ⟨rfl, by omega, by omega, by rw [Nat.add_sub_cancel_left]; exact hs⟩]
  · rw [up2_ne (by omega)]
    unfold AGE
    by_cases c : k = 1 ∧ 103 ≤ i ∧ i < 103 + h ∧ sd ν (i - 103) = true
    · rw [if_pos c, if_pos ⟨c.1, c.2.1, by omega, c.2.2.2⟩]
    · rw [if_neg c, if_neg (fun q => c ⟨q.1, q.2.1, by omega, q.2.2.2⟩)]
theorem AGE_n (ν : Mem) {h : Nat} (hs : ¬ sd ν h = true) : AGE ν (h + 1) = AGE ν h := by
  funext k i
  unfold AGE
  by_cases c : k = 1 ∧ 103 ≤ i ∧ i < 103 + h ∧ sd ν (i - 103) = true
  · rw [if_pos c, if_pos ⟨c.1, c.2.1, by omega, c.2.2.2⟩]
  · rw [if_neg c, if_neg (fun q => c ⟨q.1, q.2.1, by
      have : ¬ i = 103 + h := fun e => hs (by have := q.2.2.2; rw [e, Nat.add_sub_cancel_left] at this; exact this)
      omega, q.2.2.2⟩)]
theorem AGE_at (ν : Mem) (h : Nat) : AGE ν h 1 (103 + h) = ν 1 (103 + h) := if_neg (by omega)
theorem AGE_of {ν ν' μ' : Mem} {h : Nat} (hh : h ≤ 12) (e : EA ν' μ') (o1 : OF ν ν') (o2 : OF (AGE ν h) μ') : μ' = AGE ν' h := by
  funext k i
  by_cases c : k = 1 ∧ 103 ≤ i
  · obtain ⟨rfl, hi⟩ := c
    rw [o2 i (by omega) (by omega)]
    unfold AGE
    rw [o1 i (by omega) (by omega)]
    by_cases q : i < 103 + h
    · have es : sd ν' (i - 103) = sd ν (i - 103) := wl_cong (fun j h1 h2 => o1 j (by omega) (by omega)) (by omega)
      rw [es]
    · rw [if_neg (by omega), if_neg (by omega)]
  · rw [e k i c]
    exact (if_neg (by omega)).symm
