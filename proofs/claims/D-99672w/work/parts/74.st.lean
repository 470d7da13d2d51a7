/-! ===== a borough going on: x's and the model's ===== -/
def rg (i : Nat) (x : Int32) : Prop := (7 ≤ i → i < 55 → ∃ n, n ≤ 99 ∧ x = nI n) ∧ (91 ≤ i → i < 103 → x = nI 0 ∨ x = nI 1) ∧ (103 ≤ i → ∃ n, n ≤ 9999 ∧ x = nI n) ∧ (i = 4 → x = nI 0 ∨ x = nI 1) ∧ (i = 2 → ∃ n, n ≤ 150 ∧ x = nI n)
theorem rg_no {i : Nat} (x : Int32) (h1 : i < 7 ∨ 55 ≤ i) (h2 : i < 91) (h3 : i ≠ 4) (h4 : i ≠ 2) : rg i x := ⟨fun _ _ => by omega, fun _ _ => by omega, fun _ => by omega, fun _ => by omega, fun _ => by omega⟩
theorem rg_wall {i n : Nat} (h : 7 ≤ i) (h2 : i < 55) (hn : n ≤ 99) : rg i (nI n) := ⟨fun _ _ => ⟨n, hn, rfl⟩, fun _ _ => by omega, fun _ => by omega, fun _ => by omega, fun _ => by omega⟩
theorem rg_door {i : Nat} {x : Int32} (h : 91 ≤ i) (h2 : i < 103) (hn : x = nI 0 ∨ x = nI 1) : rg i x := ⟨fun _ _ => by omega, fun _ _ => hn, fun _ => by omega, fun _ => by omega, fun _ => by omega⟩
theorem rg_age {i n : Nat} (h : 103 ≤ i) (hn : n ≤ 9999) : rg i (nI n) := ⟨fun _ _ => by omega, fun _ _ => by omega, fun _ => ⟨n, hn, rfl⟩, fun _ => by omega, fun _ => by omega⟩
theorem rg_frost {x : Int32} (hn : x = nI 0 ∨ x = nI 1) : rg 4 x := ⟨fun _ _ => by omega, fun _ _ => by omega, fun _ => by omega, fun _ => hn, fun _ => by omega⟩
def chg (b a : Nat) : Prop := a = b ∨ (b + 3 ≤ a ∧ a < b + 153) ∨ (b + 245 ≤ a ∧ a < b + 269)
/-- the borough at b and the row of now, some steps after a beginning -/
def ST (b : Nat) (P0 : Ptr) (I0 μ0 : Mem) (P : Ptr) (I μ : Mem) : Prop := (BR I b μ) ∧ (∀ i, i < 115 → rg i (μ 1 i)) ∧ (μ0 5 0 = 0 → ∀ l, l ≤ 150 → μ 1 2 = nI l → ∀ i k, i < l → k < 4 → I (b + 3 + i) k = μ 9 (4 * i + k)) ∧ (¬ μ0 5 0 = 0 → μ 9 = μ0 9) ∧ (∀ a, ¬ chg b a → I a = I0 a) ∧ (∀ j, (j < 15 ∨ 22 ≤ j) → j ≠ 25 → I b j = I0 b j) ∧ (∀ k, k ≠ 1 → k ≠ 9 → k ≠ 39 → k ≠ 40 → μ k = μ0 k) ∧ (∀ a i, ¬ (a = b ∧ i = 24) → P a i = P0 a i) ∧ (∀ l l', l ≤ 150 → l' ≤ 150 → μ0 1 2 = nI l → μ 1 2 = nI l' → l ≤ l')
theorem ST.br {b : Nat} {P0 : Ptr} {I0 μ0 : Mem} {P : Ptr} {I μ : Mem} (S : ST b P0 I0 μ0 P I μ) : BR I b μ := S.1
theorem ST.rgs {b : Nat} {P0 : Ptr} {I0 μ0 : Mem} {P : Ptr} {I μ : Mem} (S : ST b P0 I0 μ0 P I μ) : ∀ i, i < 115 → rg i (μ 1 i) := S.2.1
theorem ST.bk {b : Nat} {P0 : Ptr} {I0 μ0 : Mem} {P : Ptr} {I μ : Mem} (S : ST b P0 I0 μ0 P I μ) : μ0 5 0 = 0 → ∀ l, l ≤ 150 → μ 1 2 = nI l → ∀ i k, i < l → k < 4 → I (b + 3 + i) k = μ 9 (4 * i + k) := S.2.2.1
theorem ST.b9 {b : Nat} {P0 : Ptr} {I0 μ0 : Mem} {P : Ptr} {I μ : Mem} (S : ST b P0 I0 μ0 P I μ) : ¬ μ0 5 0 = 0 → μ 9 = μ0 9 := S.2.2.2.1
theorem ST.fx {b : Nat} {P0 : Ptr} {I0 μ0 : Mem} {P : Ptr} {I μ : Mem} (S : ST b P0 I0 μ0 P I μ) : ∀ a, ¬ chg b a → I a = I0 a := S.2.2.2.2.1
theorem ST.fb {b : Nat} {P0 : Ptr} {I0 μ0 : Mem} {P : Ptr} {I μ : Mem} (S : ST b P0 I0 μ0 P I μ) : ∀ j, (j < 15 ∨ 22 ≤ j) → j ≠ 25 → I b j = I0 b j := S.2.2.2.2.2.1
theorem ST.fm {b : Nat} {P0 : Ptr} {I0 μ0 : Mem} {P : Ptr} {I μ : Mem} (S : ST b P0 I0 μ0 P I μ) : ∀ k, k ≠ 1 → k ≠ 9 → k ≠ 39 → k ≠ 40 → μ k = μ0 k := S.2.2.2.2.2.2.1
theorem ST.fp {b : Nat} {P0 : Ptr} {I0 μ0 : Mem} {P : Ptr} {I μ : Mem} (S : ST b P0 I0 μ0 P I μ) : ∀ a i, ¬ (a = b ∧ i = 24) → P a i = P0 a i := S.2.2.2.2.2.2.2.1
theorem ST.ln {b : Nat} {P0 : Ptr} {I0 μ0 : Mem} {P : Ptr} {I μ : Mem} (S : ST b P0 I0 μ0 P I μ) : ∀ l l', l ≤ 150 → l' ≤ 150 → μ0 1 2 = nI l → μ 1 2 = nI l' → l ≤ l' := S.2.2.2.2.2.2.2.2
theorem ln_rfl {μ : Mem} (l l' : Nat) (h : l ≤ 150) (h' : l' ≤ 150) (e : μ 1 2 = nI l) (e' : μ 1 2 = nI l') : l ≤ l' := by
  rw [e, nI_eq (by omega) (by omega)] at e'
  omega
theorem xl_fld {b i : Nat} (h : i < 115) : (xl b 1 i).1 = b → 15 ≤ (xl b 1 i).2 ∧ (xl b 1 i).2 ≤ 21 := by
  rcases mi_cases (mi_row h) with ⟨_, h⟩ | ⟨h, w, hh, hw, _, rfl⟩ | ⟨h, hh, _, rfl⟩ | ⟨h, hh, _, rfl⟩ | ⟨h, hh, _, rfl⟩ | ⟨h, hh, _, rfl⟩ | ⟨h, hh, _, rfl⟩ | ⟨h, _⟩ | ⟨h, _⟩ | ⟨h, _⟩ | ⟨h, _⟩
  · intro _
    have : i = 0 ∨ i = 1 ∨ i = 2 ∨ i = 3 ∨ i = 4 ∨ i = 5 ∨ i = 6 := by omega
    rcases this with rfl | rfl | rfl | rfl | rfl | rfl | rfl <;> exact ⟨Nat.le_of_ble_eq_true rfl, Nat.le_of_ble_eq_true rfl⟩
  · rw [xl_wall hh hw]; intro e; dsimp only at e; omega
  · rw [xl_hard hh]; intro e; dsimp only at e; omega
  · rw [xl_icing hh]; intro e; dsimp only at e; omega
  · rw [xl_lodgers hh]; intro e; dsimp only at e; omega
  · rw [xl_door hh]; intro e; dsimp only at e; omega
  · rw [xl_age hh]; intro e; dsimp only at e; omega
  all_goals omega
theorem up2_swap (μ : Mem) {k i k' i' : Nat} (x y : Int32) (h : k ≠ k' ∨ i ≠ i') : up2 (up2 μ k i x) k' i' y = up2 (up2 μ k' i' y) k i x := by
  funext a j
  by_cases e1 : a = k ∧ j = i
  · obtain ⟨rfl, rfl⟩ := e1
    rw [up2_ne (by omega), up2_same, up2_same]
  · by_cases e2 : a = k' ∧ j = i'
    · obtain ⟨rfl, rfl⟩ := e2
      rw [up2_same, up2_ne (by omega), up2_same]
    · rw [up2_ne (by omega), up2_ne (by omega), up2_ne (by omega), up2_ne (by omega)]
section STs
variable {b : Nat} {P0 P : Ptr} {I0 μ0 I μ : Mem}
theorem ST.set (S : ST b P0 I0 μ0 P I μ) {i a j : Nat} (hi : i < 115) (h2 : i ≠ 2) (hl : xl b 1 i = (a, j)) {x : Int32} (hr : rg i x) : ST b P0 I0 μ0 P (up2 I a j x) (up2 μ 1 i x) := by
  have hc : chg b a := by
    have := xl_house (b := b) (mi_row hi)
    rw [hl] at this
    dsimp only at this
    unfold chg
    omega
  have hf := xl_fld (b := b) hi
  rw [hl] at hf
  dsimp only at hf
  have hb : a = b ∨ b + 245 ≤ a := by
    have := xl_house (b := b) (mi_row hi)
    rw [hl] at this
    dsimp only at this
    omega
  refine ⟨S.br.set (mi_row hi) hl x, fun i' hi' => ?_, fun h5 l hl' e i' k hi' hk => ?_, fun h5 => ?_, fun a' ha => ?_, fun j' hj hj2 => ?_, fun k h1 h2 h3 h4 => ?_, S.fp, fun l l' q1 q2 q3 q4 => S.ln l l' q1 q2 q3 (by rw [up2_ne (Or.inr (fun e => h2 e.symm))] at q4; exact q4)⟩
  · by_cases e : i' = i
    · subst e; rw [up2_same]; exact hr
    · rw [up2_ne (Or.inr e)]; exact S.rgs i' hi'
  · rw [up2_ne (by omega)] at e
    rw [up2_ne (by omega), up2_ne (by omega)]
    exact S.bk h5 l hl' e i' k hi' hk
  · rw [up2_k (by decide)]; exact S.b9 h5
  · rw [up2_k (show a' ≠ a from fun e => ha (by rw [e]; exact hc))]; exact S.fx a' ha
  · rw [up2_ne (by
      by_cases e : b = a
      · have := hf e.symm; omega
      · exact Or.inl e)]
    exact S.fb j' hj hj2
  · rw [up2_k h1]; exact S.fm k h1 h2 h3 h4
theorem ST.lines (S : ST b P0 I0 μ0 P I μ) : ∃ l, l ≤ 150 ∧ μ 1 2 = nI l := (S.rgs 2 (by decide)).2.2.2.2 rfl
theorem ST.wl (S : ST b P0 I0 μ0 P I μ) {h w : Nat} (hh : h < 12) (hw : w < 4) : ∃ n, n ≤ 99 ∧ μ 1 (7 + 4 * h + w) = nI n := (S.rgs _ (by omega)).1 (by omega) (by omega)
theorem ST.t5 (S : ST b P0 I0 μ0 P I μ) : μ 5 0 = μ0 5 0 := by rw [S.fm 5 (by decide) (by decide) (by decide) (by decide)]
theorem ST.t6 (S : ST b P0 I0 μ0 P I μ) : μ 6 0 = μ0 6 0 := by rw [S.fm 6 (by decide) (by decide) (by decide) (by decide)]
theorem b_hut {h : Nat} : b + 245 + 2 * h + 1 = b + 246 + 2 * h := by omega
theorem notes2 (S : ST b P0 I0 μ0 P I μ) (k x y : Int32) : ok2 (x1_notes I b k x y) (m_notes μ k x y) (fun I' μ' => ST b P0 I0 μ0 P I' μ') := by
  unfold x1_notes m_notes
  rw [S.br.thought, S.br.lines, S.br.quarter]
  obtain ⟨l, hl, el⟩ := S.lines
  refine ok2_ii Iff.rfl (fun h5 _ => ?_) (fun _ _ => ok2_some S)
  rw [rd_eq (by decide) (by decide), Option.bind_some]
  refine ok2_ii Iff.rfl (fun _ _ => ok2_some S) (fun hne _ => ?_)
  rw [el] at hne
  rw [el]
  have hl2 : l < 150 := by
    rcases Nat.lt_or_ge l 150 with h | h
    · exact h
    · exact absurd (by rw [show l = 150 by omega]) hne
  simp (disch := omega) only [jn, nm, Option.bind_some, nI_add, pk_mul, rd_eq, wr_eq, ix_eq]
  refine ok2_some ?_
  have e9 : ∀ q : Mem, up2 (up2 (up2 (up2 q 9 (4 * l) (μ 1 0)) 9 (4 * l + 1) k) 9 (4 * l + 2) x) 9 (4 * l + 3) y 1 2 = q 1 2 := fun q => by simp (disch := omega) only [up2_same, up2_ne]
  rw [e9, el]
  have h50 : μ0 5 0 = 0 := by rw [← S.t5]; exact h5
  have ex : up2 (up2 (up2 (up2 I (b + 3 + l) 0 (μ 1 0)) (b + 3 + l) 1 k) (b + 3 + l) 2 x) (b + 3 + l) 3 y b 21 = nI l := by
    simp (disch := omega) only [up2_same, up2_ne, S.br.lines]
    exact el
  rw [ex]
  refine ⟨?_, fun i' hi' => ?_, fun h5 l' hl' e i' k' hi' hk => ?_, fun h5 => absurd h50 h5, fun a' ha => ?_, fun j' hj hj2 => ?_, fun k' h1 h2 h3 h4 => ?_, S.fp, fun l0 l' q1 q2 q3 q4 => by
    rw [up2_same, nI_add, nI_eq (by omega) (by omega)] at q4
    have := S.ln l0 l q1 hl q3 el
    omega⟩
  · refine BR.set (k := 1) (i := 2) ?_ (mi_row (by decide)) rfl _
    refine BR.cong S.br (fun a h1 h2 h3 => ?_) (fun k' hk' => ?_)
    · rw [up2_k (by omega), up2_k (by omega), up2_k (by omega), up2_k (by omega)]
    · rw [up2_k (by omega), up2_k (by omega), up2_k (by omega), up2_k (by omega)]
  · by_cases e : i' = 2
    · subst e
      rw [up2_same]
      exact ⟨fun _ _ => by omega, fun _ _ => by omega, fun _ => by omega, fun _ => by omega, fun _ => ⟨l + 1, by omega, by rw [nI_add]⟩⟩
    · simp (disch := omega) only [up2_same, up2_ne]
      exact S.rgs i' hi'
  · rw [up2_same, nI_add, nI_eq (by omega) (by omega)] at e
    rw [up2_ne (by omega)]
    have : k' = 0 ∨ k' = 1 ∨ k' = 2 ∨ k' = 3 := by omega
    by_cases ei : i' = l
    · subst ei
      rcases this with rfl | rfl | rfl | rfl <;> simp (disch := omega) only [up2_same, up2_ne, Nat.add_zero]
    · rw [up2_ne (by omega), up2_ne (by omega), up2_ne (by omega), up2_ne (by omega), up2_ne (by omega), up2_ne (by omega), up2_ne (by omega), up2_ne (by omega), up2_ne (by omega)]
      exact S.bk h5 l hl el i' k' (by omega) hk
  · unfold chg at ha
    rw [up2_k (by omega), up2_k (by omega), up2_k (by omega), up2_k (by omega), up2_k (by omega)]
    exact S.fx a' (by unfold chg; omega)
  · rw [up2_ne (by omega), up2_ne (by omega), up2_ne (by omega), up2_ne (by omega), up2_ne (by omega)]
    exact S.fb j' hj hj2
  · rw [up2_k h1, up2_k h2, up2_k h2, up2_k h2, up2_k h2]
    exact S.fm k' h1 h2 h3 h4
/-- lodgers go from h to t, or out -/
theorem moves2 (S : ST b P0 I0 μ0 P I μ) {h : Nat} {t : Int32} (hh : h < 12) (ht : t = -1 ∨ ∃ j, j < 12 ∧ j ≠ h ∧ t = nI j) : ok2 (x1_moves_2 I b (nI h) t) (m_lodgersGo μ (nI h) t) (fun I' μ' => ST b P0 I0 μ0 P I' μ') := by
  unfold x1_moves_2 m_lodgersGo
  refine ok2_b (notes2 S _ _ _) (fun I1 μ1 S1 => ?_)
  rcases ht with rfl | ⟨j, hj, hjh, rfl⟩
  · simp (disch := omega) only [jn, nm, Option.bind_some, nI_add, pk_mul, rd_eq, wr_eq, ix_eq, if_true]
    exact ok2_some (S1.set (by omega) (by omega) (xl_lodgers hh) (rg_no _ (by omega) (by omega) (by omega) (by omega)))
  · have hn : ¬ nI j = (-1 : Int32) := by
      intro e
      have := congrArg Int32.toInt e
      rw [nI_toInt (by omega)] at this
      have e2 : (-1 : Int32).toInt = -1 := by decide
      omega
    simp (disch := omega) only [jn, nm, Option.bind_some, nI_add, pk_mul, rd_eq, wr_eq, ix_eq, if_neg hn]
    refine ok2_some ?_
    rw [S1.br.lodgers hj, S1.br.lodgers hh, up2_ne (by omega), up2_swap _ _ _ (by omega)]
    exact (S1.set (by omega) (by omega) (xl_lodgers hh) (rg_no _ (by omega) (by omega) (by omega) (by omega))).set (by omega) (by omega) (xl_lodgers hj) (rg_no _ (by omega) (by omega) (by omega) (by omega))
end STs
