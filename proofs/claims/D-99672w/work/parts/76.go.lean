theorem nI_m1 (j : Nat) : nI (j + 1) + (-1) = nI j := by
  rw [← nI_pred j, Int32.sub_eq_add_neg]
theorem nI_sub1 (n : Nat) : nI n - nI 1 = nI n + (-1) := Int32.sub_eq_add_neg _ _
theorem m1_1 (j : Nat) : nI j + (-1) + 1 = nI j := by rw [Int32.add_assoc, show (-1 : Int32) + 1 = 0 by decide, Int32.add_zero]
theorem m1_neg : nI 0 + (-1 : Int32) < 0 := by decide
theorem nI_ne_m1 {j : Nat} (hj : j < 2 ^ 31) : ¬ nI j = (-1 : Int32) := by
  intro e
  have := congrArg Int32.toInt e
  rw [nI_toInt hj] at this
  have e2 : (-1 : Int32).toInt = -1 := by decide
  omega
theorem has_m (μ : Mem) {m j : Nat} (h : m < 4096) (hj : j < 12) : m_has μ (nI m) (nI j) = some (m.testBit j) := by
  unfold m_has
  have := hasb h hj
  by_cases c : (nI m >>> (nI j &&& 31)) &&& nI 1 = nI 1
  · rw [if_pos c, ← this, decide_eq_true c]
  · rw [if_neg c, ← this, decide_eq_false c]
theorem and_lt {a c n : Nat} (h : a < 2 ^ n) : a &&& c < 2 ^ n := Nat.lt_of_le_of_lt Nat.and_le_left h
/-! ===== who leaves, who weds, what falls ===== -/
def BA (kd : Kd) (b n nt : Nat) (P0 : Ptr) (I0 μ0 : Mem) : Prop := (n ≤ 12) ∧ (μ0 6 0 = nI n) ∧ (P0 b 13 = some nt) ∧ (kd nt = (20, 12, 0)) ∧ (¬ chg b nt) ∧ (∀ h, h < 12 → I0 nt h = μ0 38 h) ∧ (∀ h, h < 12 → ∃ m, m < 4096 ∧ μ0 38 h = nI m)
theorem BA.hn {kd : Kd} {b n nt : Nat} {P0 : Ptr} {I0 μ0 : Mem} (S : BA kd b n nt P0 I0 μ0) : n ≤ 12 := S.1
theorem BA.hm {kd : Kd} {b n nt : Nat} {P0 : Ptr} {I0 μ0 : Mem} (S : BA kd b n nt P0 I0 μ0) : μ0 6 0 = nI n := S.2.1
theorem BA.np {kd : Kd} {b n nt : Nat} {P0 : Ptr} {I0 μ0 : Mem} (S : BA kd b n nt P0 I0 μ0) : P0 b 13 = some nt := S.2.2.1
theorem BA.nk {kd : Kd} {b n nt : Nat} {P0 : Ptr} {I0 μ0 : Mem} (S : BA kd b n nt P0 I0 μ0) : kd nt = (20, 12, 0) := S.2.2.2.1
theorem BA.nc {kd : Kd} {b n nt : Nat} {P0 : Ptr} {I0 μ0 : Mem} (S : BA kd b n nt P0 I0 μ0) : ¬ chg b nt := S.2.2.2.2.1
theorem BA.ni {kd : Kd} {b n nt : Nat} {P0 : Ptr} {I0 μ0 : Mem} (S : BA kd b n nt P0 I0 μ0) : ∀ h, h < 12 → I0 nt h = μ0 38 h := S.2.2.2.2.2.1
theorem BA.nr {kd : Kd} {b n nt : Nat} {P0 : Ptr} {I0 μ0 : Mem} (S : BA kd b n nt P0 I0 μ0) : ∀ h, h < 12 → ∃ m, m < 4096 ∧ μ0 38 h = nI m := S.2.2.2.2.2.2
section GO
variable {kd : Kd} {b n nt : Nat} {P0 P : Ptr} {I0 μ0 I μ : Mem}
theorem pk_of {kd : Kd} {r : Option Nat} {k : Nat × Nat × Nat} {a : Nat} (h : r = some a) (hk : kd a = k) : pk kd r k = some a := by
  subst h
  unfold pk
  exact if_pos hk
theorem BA.pk (A : BA kd b n nt P0 I0 μ0) (S : ST b P0 I0 μ0 P I μ) : pk kd (P b 13) (20, 12, 0) = some nt := pk_of (by rw [S.fp _ _ (by omega)]; exact A.np) A.nk
theorem BA.nx (A : BA kd b n nt P0 I0 μ0) (S : ST b P0 I0 μ0 P I μ) {h : Nat} (hh : h < 12) : I nt h = μ 38 h := by
  rw [S.fx nt A.nc, S.fm 38 (by decide) (by decide) (by decide) (by decide)]
  exact A.ni h hh
theorem BA.n6 (A : BA kd b n nt P0 I0 μ0) (S : ST b P0 I0 μ0 P I μ) : μ 6 0 = nI n := by rw [S.t6]; exact A.hm
theorem BA.mk (A : BA kd b n nt P0 I0 μ0) (S : ST b P0 I0 μ0 P I μ) {h : Nat} (hh : h < 12) : ∃ m, m < 4096 ∧ μ 38 h = nI m := by
  rw [S.fm 38 (by decide) (by decide) (by decide) (by decide)]
  exact A.nr h hh
/-- the model's search for the next that stands -/
theorem search_m (A : BA kd b n nt P0 I0 μ0) (S : ST b P0 I0 μ0 P I μ) {h m : Nat} (hh : h < 12) (em : μ 38 h = nI m) (hm : m < 4096) {R : Type} {k : Int32 → Option R} {Q : R → Prop}
    (hk : ∀ t, (t = -1 ∧ (∀ i, i < n → (ss μ n &&& m).testBit i = false)) ∨ (∃ i, i < n ∧ (ss μ n &&& m).testBit i = true ∧ (∀ j, j < i → (ss μ n &&& m).testBit j = false) ∧ t = nI i) → ok (k t) Q) :
    ok (lp (fun again9 (j8 : Int32 × Int32) => if j8.2 < 0 then k j8.1 else (rd μ 38 24 (nI h)).bind fun v11 => (m_has μ v11 j8.2).bind fun r12 => if (bI r12) = 0 then again9 (j8.1, (j8.2 + (-1 : Int32))) else (m_doesStand μ j8.2).bind fun r13 => if (bI r13) = 0 then again9 (j8.1, (j8.2 + (-1 : Int32))) else again9 (j8.2, (j8.2 + (-1 : Int32)))) fuel ((-1 : Int32), nI n - nI 1)) Q := by
  have hn := A.hn
  refine ok_lp (fun s => ∃ j, j ≤ n ∧ s.2 = nI j + (-1) ∧ ((s.1 = -1 ∧ (∀ i, j ≤ i → i < n → (ss μ n &&& m).testBit i = false)) ∨ (∃ i, j ≤ i ∧ i < n ∧ (ss μ n &&& m).testBit i = true ∧ (∀ q, j ≤ q → q < i → (ss μ n &&& m).testBit q = false) ∧ s.1 = nI i))) (fun s => (s.2 + 1).toNatClampNeg) ?_ fuel _ ⟨n, Nat.le_refl _, nI_sub1 n, Or.inl ⟨rfl, fun i h1 h2 => absurd h1 (by omega)⟩⟩ ?_
  · rintro again s ⟨j, hj, e2, hc⟩ ih
    obtain ⟨s1, s2⟩ := s
    dsimp only at e2 hc ⊢
    subst e2
    cases j with
    | zero =>
      rw [if_pos m1_neg]
      refine hk _ ?_
      rcases hc with ⟨e, hc⟩ | ⟨i, _, hi, h1, h2, e⟩
      · exact Or.inl ⟨e, fun i hi => hc i (Nat.zero_le _) hi⟩
      · exact Or.inr ⟨i, hi, h1, fun q hq => h2 q (Nat.zero_le _) hq, e⟩
    | succ j =>
      have me : (nI j + (-1) + 1).toNatClampNeg < (nI (j + 1) + (-1) + 1).toNatClampNeg := by
        rw [m1_1, m1_1, nI_clamp (by omega), nI_clamp (by omega)]
        omega
      rw [nI_m1, if_neg (nI_pos (by omega)), rd_eq (by omega) (by decide), Option.bind_some, em, has_m μ hm (by omega), Option.bind_some]
      have hb : (ss μ n &&& m).testBit j = (sd μ j && m.testBit j) := by rw [Nat.testBit_and, ss_bit, decide_eq_true (show j < n by omega), Bool.true_and]
      refine ok_ite (fun c => ?_) (fun c => ?_)
      · rw [bI_0] at c
        refine ih (s1, nI j + (-1)) ⟨j, by omega, rfl, ?_⟩ me
        have hf : (ss μ n &&& m).testBit j = false := by rw [hb, c, Bool.and_false]
        rcases hc with ⟨e, hc⟩ | ⟨i, h0, hi, h1, h2, e⟩
        · exact Or.inl ⟨e, fun i h1 h2 => by
            by_cases q : i = j
            · rw [q]; exact hf
            · exact hc i (by omega) h2⟩
        · exact Or.inr ⟨i, by omega, hi, h1, fun q q1 q2 => by
            by_cases q3 : q = j
            · rw [q3]; exact hf
            · exact h2 q (by omega) q2, e⟩
      · have c' : m.testBit j = true := by cases q : m.testBit j; exact absurd (bI_0.mpr q) c; rfl
        rw [stand_m μ (by omega), Option.bind_some]
        refine ok_ite (fun c2 => ?_) (fun c2 => ?_)
        · rw [bI_0] at c2
          refine ih (s1, nI j + (-1)) ⟨j, by omega, rfl, ?_⟩ me
          have hf : (ss μ n &&& m).testBit j = false := by rw [hb, c2, Bool.false_and]
          rcases hc with ⟨e, hc⟩ | ⟨i, h0, hi, h1, h2, e⟩
          · exact Or.inl ⟨e, fun i h1 h2 => by
              by_cases q : i = j
              · rw [q]; exact hf
              · exact hc i (by omega) h2⟩
          · exact Or.inr ⟨i, by omega, hi, h1, fun q q1 q2 => by
              by_cases q3 : q = j
              · rw [q3]; exact hf
              · exact h2 q (by omega) q2, e⟩
        · have c3 : sd μ j = true := by cases q : sd μ j; exact absurd (bI_0.mpr q) c2; rfl
          refine ih (nI j, nI j + (-1)) ⟨j, by omega, rfl, Or.inr ⟨j, Nat.le_refl _, by omega, by rw [hb, c3, c']; rfl, fun q q1 q2 => by omega, rfl⟩⟩ me
  · show (nI n - nI 1 + 1).toNatClampNeg < 20000
    rw [nI_sub1, m1_1, nI_clamp (by omega)]
    omega
theorem leaves2 (A : BA kd b n nt P0 I0 μ0) (S : ST b P0 I0 μ0 P I μ) {h : Nat} (hh : h < 12) : ok2 (x1_leaves kd P I b (nI h)) (m_areOut μ (nI h)) (fun I' μ' => ST b P0 I0 μ0 P I' μ') := by
  have hn := A.hn
  obtain ⟨m, hm, em⟩ := A.mk S hh
  unfold x1_leaves m_areOut
  rw [ix_eq hh (by decide), Option.bind_some, bsd S.br hh, Option.bind_some, stand_m μ hh, Option.bind_some]
  refine ok2_ii Iff.rfl (fun c _ => ?_) (fun _ _ => ok2_some S)
  rw [nI_add, rd_eq (by omega) (by decide), Option.bind_some, S.br.lodgers hh]
  refine ok2_ii Iff.rfl (fun _ _ => ok2_some S) (fun _ _ => ?_)
  rw [bss S.br hn (A.n6 S), Option.bind_some, A.pk S, Option.bind_some, rd_eq hh (by decide), Option.bind_some, A.nx S hh, em, fa_and, A.n6 S]
  have hsl : ss μ n &&& m < 4096 := Nat.lt_of_le_of_lt Nat.and_le_right hm
  have nh : ¬ sd μ h = true := by rw [bI_0.mp c]; decide
  have key : ∀ t, (t = -1 ∨ ∃ j, j < 12 ∧ j ≠ h ∧ t = nI j) → ok2 (x1_moves_2 I b (nI h) t) (m_lodgersGo μ (nI h) t) (fun I' μ' => ST b P0 I0 μ0 P I' μ') := fun t ht => moves2 S hh ht
  have hbit : ∀ i, i < n → (ss μ n &&& m).testBit i = true → i ≠ h := fun i hi hb e => by
    rw [e, Nat.testBit_and, ss_bit] at hb
    simp [nh] at hb
  refine ok2_jl (ok2_nr (ok2_jr ?_))
  refine ok2_of ?_
  by_cases c0 : ss μ n &&& m = 0
  · rw [c0, if_pos nI_0]
    obtain ⟨I', μ', e1, e2, S'⟩ := key (-1) (Or.inl rfl)
    refine ok_eq e1 (ok_some (search_m (k := fun t => (m_lodgersGo μ (nI h) t).bind fun r7 => some r7) A S hh em hm (fun t ht => ?_)))
    rcases ht with ⟨rfl, _⟩ | ⟨i, _, hi, _, _⟩
    · exact ok_eq e2 (ok_some S')
    · rw [c0, Nat.zero_testBit] at hi; cases hi
  · obtain ⟨i, hi, h1, h2, h3⟩ := ntz_all hsl c0
    have hin : i < n := by
      rw [Nat.testBit_and, ss_bit] at h1
      simp at h1
      exact h1.1.1
    rw [if_neg (nI_ne0 (by omega) (by omega)), h3, Option.bind_some]
    obtain ⟨I', μ', e1, e2, S'⟩ := key (nI i) (Or.inr ⟨i, hi, hbit i hin h1, rfl⟩)
    refine ok_eq e1 (ok_some (search_m (k := fun t => (m_lodgersGo μ (nI h) t).bind fun r7 => some r7) A S hh em hm (fun t ht => ?_)))
    rcases ht with ⟨rfl, hz⟩ | ⟨i', _, hi1, hi2, rfl⟩
    · rw [hz i hin] at h1; cases h1
    · rw [low_one hi1 hi2 h1 h2]; exact ok_eq e2 (ok_some S')
end GO
