/-! ===== the law's terms, and what the model runs ===== -/
/-- a term of x's at t beside the model's code from a to c -/
def TM (kd : Kd) (P : Ptr) (I μ : Mem) : Nat → Nat → Nat → Nat → Prop
  | 0, _, _, _ => False
  | d + 1, t, a, c => (kd t = (7, 0, 0) ∧ c = a + 1 ∧ μ 22 a = nI 0 ∧ μ 23 a = I t 0)
    ∨ (kd t = (8, 0, 0) ∧ c = a + 1 ∧ μ 22 a = nI 1 ∧ ∃ q, q < 12 ∧ I t 0 = nI q ∧ μ 23 a = nI q)
    ∨ (kd t = (9, 0, 0) ∧ ∃ l r m e, P t 0 = some l ∧ P t 1 = some r ∧ TM kd P I μ d l a m ∧ TM kd P I μ d r m e ∧ c = e + 1 ∧ a < m ∧ m < e ∧ (
        (μ 22 e = nI 2 ∧ I t 2 = nI 43) ∨ (μ 22 e = nI 3 ∧ I t 2 = nI 45) ∨ (μ 22 e = nI 4 ∧ I t 2 = nI 42) ∨ (μ 22 e = nI 5 ∧ I t 2 = nI 47 ∧ kd r = (7, 0, 0) ∧ ¬ I r 0 = 0)
        ∨ (μ 22 e = nI 6 ∧ I t 2 = nI 60) ∨ (μ 22 e = nI 7 ∧ I t 2 = nI 61) ∨ (μ 22 e = nI 8 ∧ I t 2 = nI 62)))
def i01 (v : Int32) : Prop := v = nI 0 ∨ v = nI 1
/-- a condition -/
def TB (kd : Kd) (P : Ptr) (I μ : Mem) : Nat → Nat → Nat → Nat → Prop
  | 0, _, _, _ => False
  | d + 1, t, a, c => (kd t = (9, 0, 0) ∧ ∃ l r m e, P t 0 = some l ∧ P t 1 = some r ∧ c = e + 1 ∧ a < m ∧ m < e ∧
        ((TM kd P I μ d l a m ∧ TM kd P I μ d r m e ∧ ((μ 22 e = nI 6 ∧ I t 2 = nI 60) ∨ (μ 22 e = nI 7 ∧ I t 2 = nI 61) ∨ (μ 22 e = nI 8 ∧ I t 2 = nI 62)))
        ∨ (TB kd P I μ d l a m ∧ TB kd P I μ d r m e ∧ ((μ 22 e = nI 10 ∧ I t 2 = nI 5) ∨ (μ 22 e = nI 11 ∧ I t 2 = nI 4)))))
    ∨ (kd t = (10, 0, 0) ∧ ∃ l e, P t 0 = some l ∧ TB kd P I μ d l a e ∧ c = e + 1 ∧ a < e ∧ μ 22 e = nI 9)
/-- one step of the model's run -/
def rb (x3 : Int32) (k : Mem → Option (Int32 × Mem)) (again7 : Int32 × Int32 × Mem → Option (Int32 × Mem)) (j6 : Int32 × Int32 × Mem) : Option (Int32 × Mem) :=
  if (((nI 400) * nI 0) + x3) ≤ j6.2.1 then k j6.2.2 else
  (rd j6.2.2 22 1200 j6.2.1).bind fun v9 =>
  jn (fun (_ : Unit) => (rd j6.2.2 22 1200 j6.2.1).bind fun v13 => jn (fun (j14 : Int32) => (wr j6.2.2 40 420 j6.1 j14).bind fun μ17 => again7 ((j6.1 + (nI 1)), (j6.2.1 + (nI 1)), μ17)) (fun k15 => if v13 = 0 then (rd j6.2.2 23 1200 j6.2.1).bind fun v20 => k15 v20 else (rd j6.2.2 23 1200 j6.2.1).bind fun v18 => (rd j6.2.2 39 12 v18).bind fun v19 => k15 v19)) (fun k11 =>
  if v9 = 0 then k11 () else
  (rd j6.2.2 22 1200 j6.2.1).bind fun v21 =>
  if v21 = (nI 1) then k11 () else
  (rd j6.2.2 22 1200 j6.2.1).bind fun v22 =>
  if v22 = (nI 9) then
  (rd j6.2.2 40 420 (j6.1 - (nI 1))).bind fun v29 =>
  (wr j6.2.2 40 420 (j6.1 - (nI 1)) ((nI 1) - v29)).bind fun μ30 =>
  again7 (j6.1, (j6.2.1 + (nI 1)), μ30)
  else
  nm (j6.1 - (nI 1)) fun v23 =>
  (rd j6.2.2 22 1200 j6.2.1).bind fun v24 =>
  (rd j6.2.2 40 420 (v23 - (nI 1))).bind fun v25 =>
  (rd j6.2.2 40 420 v23).bind fun v26 =>
  (m_twoOf j6.2.2 v24 v25 v26).bind fun r27 =>
  (wr j6.2.2 40 420 (v23 - (nI 1)) r27).bind fun μ28 =>
  again7 (v23, (j6.2.1 + (nI 1)), μ28))
theorem nm_eq {α R : Type} (e : α) (k : α → Option R) : nm e k = k e := rfl
theorem jn_eq {S R : Type} (k : S → Option R) (f : (S → Option R) → Option R) : jn k f = f k := rfl
theorem runs_rb (μ : Mem) (a e : Int32) : m_runs μ (nI 0) a e = lp (rb e (fun j2 => (rd j2 40 420 (nI 0)).bind fun v5 => some (v5, j2))) fuel (nI 0, nI 400 * nI 0 + a, μ) := by
  unfold m_runs
  rw [nm_eq, jn_eq]
  refine congrFun (congrFun (congrArg lp ?_) fuel) _
  funext again j
  unfold rb nm jn
  rfl
section EVAL
variable {kd : Kd} {P : Ptr} {I μ : Mem} {b E : Nat} {k : Mem → Option (Int32 × Mem)}
theorem rb_push {again : Int32 × Int32 × Mem → Option (Int32 × Mem)} {sp a : Nat} {ν : Mem} {v : Int32} (ha : a < E) (hE : E ≤ 400) (hs : sp < 420) (h : (ν 22 a = nI 0 ∧ ν 23 a = v) ∨ (ν 22 a = nI 1 ∧ ∃ q, q < 12 ∧ ν 23 a = nI q ∧ ν 39 q = v)) : rb (nI E) k again (nI sp, nI a, ν) = again (nI (sp + 1), nI (a + 1), up2 ν 40 sp v) := by
  unfold rb
  dsimp only
  rw [pk_mul, nI_add, if_neg (nI_ge (by omega) (by omega)), rd_eq (i := a) (by omega) (by decide)]
  dsimp only [jn, Option.bind_some]
  rcases h with ⟨h1, h2⟩ | ⟨h1, q, hq, h2, h3⟩
  · rw [h1, if_pos nI_0, if_pos nI_0, rd_eq (i := a) (by omega) (by decide), Option.bind_some, wr_eq hs (by decide), Option.bind_some, nI_add, nI_add, h2]
  · rw [h1, if_neg (by decide), if_pos rfl, if_neg (by decide), rd_eq (i := a) (by omega) (by decide), Option.bind_some, h2, rd_eq hq (by decide), Option.bind_some, wr_eq hs (by decide), Option.bind_some, nI_add, nI_add, h3]
theorem rb_two {again : Int32 × Int32 × Mem → Option (Int32 × Mem)} {sp a q : Nat} {ν : Mem} {v x y : Int32} (ha : a < E) (hE : E ≤ 400) (hs : sp + 1 < 420) (hq : ν 22 a = nI q) (h2 : 2 ≤ q) (h3 : q < 20) (h9 : q ≠ 9) (hx : ν 40 sp = x) (hy : ν 40 (sp + 1) = y) (hv : m_twoOf ν (nI q) x y = some v) : rb (nI E) k again (nI (sp + 2), nI a, ν) = again (nI (sp + 1), nI (a + 1), up2 ν 40 sp v) := by
  unfold rb
  dsimp only
  rw [pk_mul, nI_add, if_neg (nI_ge (by omega) (by omega)), rd_eq (i := a) (by omega) (by decide)]
  dsimp only [jn, nm, Option.bind_some]
  have e1 : nI (sp + 2) - nI 1 = nI (sp + 1) := nI_sub (by omega)
  have e2 : nI (sp + 1) - nI 1 = nI sp := nI_sub (by omega)
  rw [hq, if_neg (nI_ne0 (by omega) (by omega)), if_neg (by rw [nI_eq (by omega) (by omega)]; omega), if_neg (by rw [nI_eq (by omega) (by omega)]; omega), e1, e2, rd_eq (i := sp) (by omega) (by decide), Option.bind_some, rd_eq (i := sp + 1) (by omega) (by decide), Option.bind_some, hx, hy, hv, Option.bind_some, wr_eq (i := sp) (by omega) (by decide), Option.bind_some, nI_add]
theorem rb_not {again : Int32 × Int32 × Mem → Option (Int32 × Mem)} {sp a : Nat} {ν : Mem} {x : Int32} (ha : a < E) (hE : E ≤ 400) (hs : sp < 420) (hq : ν 22 a = nI 9) (hx : ν 40 sp = x) : rb (nI E) k again (nI (sp + 1), nI a, ν) = again (nI (sp + 1), nI (a + 1), up2 ν 40 sp (nI 1 - x)) := by
  unfold rb
  dsimp only
  rw [pk_mul, nI_add, if_neg (nI_ge (by omega) (by omega)), rd_eq (i := a) (by omega) (by decide)]
  dsimp only [jn, nm, Option.bind_some]
  have e1 : nI (sp + 1) - nI 1 = nI sp := nI_sub (by omega)
  rw [hq, if_neg (by decide), if_neg (by decide), if_pos rfl, e1, rd_eq (i := sp) (by omega) (by decide), Option.bind_some, hx, wr_eq (i := sp) (by omega) (by decide), Option.bind_some, nI_add]
/-- what stays while it runs -/
def RN (μ ν : Mem) (sp : Nat) (v : Int32) : Prop := ν 40 sp = v ∧ (∀ j, j < sp → ν 40 j = μ 40 j) ∧ ∀ k, k ≠ 40 → ν k = μ k
theorem RN_push (μ : Mem) (sp : Nat) (v : Int32) : RN μ (up2 μ 40 sp v) sp v := ⟨up2_same _ _ _ _, fun j hj => up2_ne (by omega), fun k hk => up2_k hk⟩
def FC (kd : Kd) (P : Ptr) (I μ : Mem) (b : Nat) : Prop := ∀ q, q < 12 → x1_fact kd P I b (nI q) = some (μ 39 q)
theorem two_of {ν : Mem} {t2 q x y : Int32} {d : Nat} (h : (q = nI 2 ∧ t2 = nI 43) ∨ (q = nI 3 ∧ t2 = nI 45) ∨ (q = nI 4 ∧ t2 = nI 42) ∨ (q = nI 5 ∧ t2 = nI 47 ∧ ¬ y = 0) ∨ (q = nI 6 ∧ t2 = nI 60) ∨ (q = nI 7 ∧ t2 = nI 61) ∨ (q = nI 8 ∧ t2 = nI 62) ∨ (q = nI 10 ∧ t2 = nI 5 ∧ i01 x ∧ i01 y) ∨ (q = nI 11 ∧ t2 = nI 4 ∧ i01 x ∧ i01 y)) {t : Nat} {f : Ptr → Mem → Nat → Nat → Option Int32} {l r : Nat} (hl : P t 0 = some l) (hr : P t 1 = some r) (h2 : I t 2 = t2) (fl : f P I l b = some x) (fr : f P I r b = some y) : ∃ v, x10_of f P I t b = some v ∧ m_twoOf ν q x y = some v := by
  unfold x10_of m_twoOf
  rw [hl, Option.bind_some, fl, Option.bind_some, hr, Option.bind_some, fr, Option.bind_some, h2]
  dsimp only [nm]
  rcases h with ⟨rfl, rfl⟩ | ⟨rfl, rfl⟩ | ⟨rfl, rfl⟩ | ⟨rfl, rfl, hy⟩ | ⟨rfl, rfl⟩ | ⟨rfl, rfl⟩ | ⟨rfl, rfl⟩ | ⟨rfl, rfl, hx, hy⟩ | ⟨rfl, rfl, hx, hy⟩
  · exact ⟨x + y, rfl, rfl⟩
  · exact ⟨x - y, rfl, rfl⟩
  · exact ⟨x * y, rfl, rfl⟩
  · refine ⟨x / y, ?_, ?_⟩
    · rw [if_neg (by decide), if_neg (by decide), if_neg (by decide), if_neg (by decide), if_pos rfl]
      unfold idivO
      rw [if_neg hy]; rfl
    · rw [if_neg (by decide), if_neg (by decide), if_neg (by decide), if_pos rfl]
      unfold idivO
      rw [if_neg hy]; rfl
  · by_cases c : y ≤ x
    · exact ⟨nI 0, if_pos c, if_pos c⟩
    · exact ⟨nI 1, if_neg c, if_neg c⟩
  · by_cases c : x = y
    · exact ⟨nI 1, if_pos c, if_pos c⟩
    · exact ⟨nI 0, if_neg c, if_neg c⟩
  · by_cases c : x ≤ y
    · exact ⟨nI 0, if_pos c, if_pos c⟩
    · exact ⟨nI 1, if_neg c, if_neg c⟩
  · rcases hx with rfl | rfl <;> rcases hy with rfl | rfl
    · exact ⟨nI 0, rfl, rfl⟩
    · exact ⟨nI 0, rfl, rfl⟩
    · exact ⟨nI 0, rfl, rfl⟩
    · exact ⟨nI 1, rfl, rfl⟩
  · rcases hx with rfl | rfl <;> rcases hy with rfl | rfl
    · exact ⟨nI 0, rfl, rfl⟩
    · exact ⟨nI 1, rfl, rfl⟩
    · exact ⟨nI 1, rfl, rfl⟩
    · exact ⟨nI 1, rfl, rfl⟩
/-- a term's run -/
theorem run_t (F : FC kd P I μ b) (hE : E ≤ 400) : ∀ (d t a c sp : Nat) (ν : Mem), TM kd P I μ d t a c → c ≤ E → sp + (c - a) ≤ 420 → (∀ k, k ≠ 40 → ν k = μ k) → a < c ∧ ∃ v ν', tof d kd P I t b = some v ∧ (∀ N, lp (rb (nI E) k) (N + (c - a)) (nI sp, nI a, ν) = lp (rb (nI E) k) N (nI (sp + 1), nI c, ν')) ∧ RN ν ν' sp v := by
  intro d
  induction d with
  | zero => intro t a c sp ν h; exact absurd h (by unfold TM; exact id)
  | succ d ih =>
    intro t a c sp ν h hc hs hν
    unfold TM at h
    unfold tof
    rcases h with ⟨kt, rfl, h1, h2⟩ | ⟨kt, rfl, h1, q, hq, h2, h3⟩ | ⟨kt, l, r, m, e, hl, hr, tl, tr, rfl, am, me, hop⟩
    · refine ⟨by omega, I t 0, up2 ν 40 sp (I t 0), if_pos kt, fun N => ?_, RN_push _ _ _⟩
      rw [show a + 1 - a = 1 by omega]
      exact rb_push (by omega) hE (by omega) (Or.inl ⟨by rw [hν 22 (by decide)]; exact h1, by rw [hν 23 (by decide)]; exact h2⟩)
    · refine ⟨by omega, μ 39 q, up2 ν 40 sp (μ 39 q), ?_, fun N => ?_, RN_push _ _ _⟩
      · rw [kt, if_neg (by decide), if_pos rfl]
        unfold x9_of
        rw [h2, F q hq]
        rfl
      · rw [show a + 1 - a = 1 by omega]
        exact rb_push (by omega) hE (by omega) (Or.inr ⟨by rw [hν 22 (by decide)]; exact h1, q, hq, by rw [hν 23 (by decide)]; exact h3, by rw [hν 39 (by decide)]⟩)
    · obtain ⟨_, x, ν1, tx, s1, r1⟩ := ih l a m sp ν tl (by omega) (by omega) hν
      obtain ⟨_, y, ν2, ty, s2, r2⟩ := ih r m e (sp + 1) ν1 tr (by omega) (by omega) (fun k hk => by rw [r1.2.2 k hk]; exact hν k hk)
      have hq : ∃ q, 2 ≤ q ∧ q < 20 ∧ q ≠ 9 ∧ μ 22 e = nI q := by
        rcases hop with q | q | q | q | q | q | q
        · exact ⟨2, by decide, by decide, by decide, q.1⟩
        · exact ⟨3, by decide, by decide, by decide, q.1⟩
        · exact ⟨4, by decide, by decide, by decide, q.1⟩
        · exact ⟨5, by decide, by decide, by decide, q.1⟩
        · exact ⟨6, by decide, by decide, by decide, q.1⟩
        · exact ⟨7, by decide, by decide, by decide, q.1⟩
        · exact ⟨8, by decide, by decide, by decide, q.1⟩
      obtain ⟨q, q1, q2, q3, q4⟩ := hq
      have hy : ∀ (_ : kd r = (7, 0, 0)) (_ : ¬ I r 0 = 0), ¬ y = 0 := fun k7 h0 => by
        cases d with
        | zero => unfold TM at tr; exact absurd tr id
        | succ d =>
          unfold tof at ty
          rw [if_pos k7] at ty
          cases ty
          exact h0
      obtain ⟨v, v1, v2⟩ := two_of (P := P) (I := I) (b := b) (ν := ν2) (x := x) (y := y) (d := d) (q := μ 22 e) (t2 := I t 2) (by
        rcases hop with q | q | q | q | q | q | q
        · exact Or.inl q
        · exact Or.inr (Or.inl q)
        · exact Or.inr (Or.inr (Or.inl q))
        · exact Or.inr (Or.inr (Or.inr (Or.inl ⟨q.1, q.2.1, hy q.2.2.1 q.2.2.2⟩)))
        · exact Or.inr (Or.inr (Or.inr (Or.inr (Or.inl q))))
        · exact Or.inr (Or.inr (Or.inr (Or.inr (Or.inr (Or.inl q)))))
        · exact Or.inr (Or.inr (Or.inr (Or.inr (Or.inr (Or.inr (Or.inl q))))))) (f := fun P I t b => tof d kd P I t b) hl hr rfl tx ty
      refine ⟨by omega, v, up2 ν2 40 sp v, ?_, fun N => ?_, ?_⟩
      · rw [kt, if_neg (by decide), if_neg (by decide), if_pos rfl]
        exact v1
      · rw [show N + (e + 1 - a) = (N + 1 + (e - m)) + (m - a) by omega, s1, s2]
        rw [q4] at v2
        exact rb_two (by omega) hE (by omega) (by rw [r2.2.2 22 (by decide), r1.2.2 22 (by decide), hν 22 (by decide)]; exact q4) q1 q2 q3 (by rw [r2.2.1 sp (by omega)]; exact r1.1) r2.1 v2
      · refine ⟨up2_same _ _ _ _, fun j hj => ?_, fun k hk => ?_⟩
        · rw [up2_ne (by omega), r2.2.1 j (by omega), r1.2.1 j hj]
        · rw [up2_k hk, r2.2.2 k hk, r1.2.2 k hk]
theorem cmp01 {ν : Mem} {q x y v : Int32} (h : q = nI 6 ∨ q = nI 7 ∨ q = nI 8) (hv : m_twoOf ν q x y = some v) : i01 v := by
  unfold m_twoOf at hv
  rcases h with rfl | rfl | rfl
  · rw [if_neg (by decide), if_neg (by decide), if_neg (by decide), if_neg (by decide), if_pos rfl] at hv
    split at hv <;> cases hv
    · exact Or.inl rfl
    · exact Or.inr rfl
  · rw [if_neg (by decide), if_neg (by decide), if_neg (by decide), if_neg (by decide), if_neg (by decide), if_pos rfl] at hv
    split at hv <;> cases hv
    · exact Or.inr rfl
    · exact Or.inl rfl
  · rw [if_neg (by decide), if_neg (by decide), if_neg (by decide), if_neg (by decide), if_neg (by decide), if_neg (by decide), if_pos rfl] at hv
    split at hv <;> cases hv
    · exact Or.inl rfl
    · exact Or.inr rfl
theorem log01 {ν : Mem} {q x y v : Int32} (h : q = nI 10 ∨ q = nI 11) (hx : i01 x) (hy : i01 y) (hv : m_twoOf ν q x y = some v) : i01 v := by
  unfold i01
  rcases h with rfl | rfl <;> rcases hx with rfl | rfl <;> rcases hy with rfl | rfl <;> (cases hv; decide)
theorem run_b (F : FC kd P I μ b) (hE : E ≤ 400) : ∀ (d t a c sp : Nat) (ν : Mem), TB kd P I μ d t a c → c ≤ E → sp + (c - a) ≤ 420 → (∀ k, k ≠ 40 → ν k = μ k) → a < c ∧ ∃ v ν', i01 v ∧ tof d kd P I t b = some v ∧ (∀ N, lp (rb (nI E) k) (N + (c - a)) (nI sp, nI a, ν) = lp (rb (nI E) k) N (nI (sp + 1), nI c, ν')) ∧ RN ν ν' sp v := by
  intro d
  induction d with
  | zero => intro t a c sp ν h; exact absurd h (by unfold TB; exact id)
  | succ d ih =>
    intro t a c sp ν h hc hs hν
    unfold TB at h
    unfold tof
    rcases h with ⟨kt, l, r, m, e, hl, hr, rfl, am, me, hop⟩ | ⟨kt, l, e, hl, tl, rfl, ae, hop⟩
    · rcases hop with ⟨tl, tr, hop⟩ | ⟨tl, tr, hop⟩
      · obtain ⟨_, x, ν1, tx, s1, r1⟩ := run_t (k := k) F hE d l a m sp ν tl (by omega) (by omega) hν
        obtain ⟨_, y, ν2, ty, s2, r2⟩ := run_t (k := k) F hE d r m e (sp + 1) ν1 tr (by omega) (by omega) (fun k hk => by rw [r1.2.2 k hk]; exact hν k hk)
        have hq : ∃ q, 2 ≤ q ∧ q < 20 ∧ q ≠ 9 ∧ μ 22 e = nI q := by
          rcases hop with q | q | q
          · exact ⟨6, by decide, by decide, by decide, q.1⟩
          · exact ⟨7, by decide, by decide, by decide, q.1⟩
          · exact ⟨8, by decide, by decide, by decide, q.1⟩
        obtain ⟨q, q1, q2, q3, q4⟩ := hq
        obtain ⟨v, v1, v2⟩ := two_of (P := P) (I := I) (b := b) (ν := ν2) (x := x) (y := y) (d := d) (q := μ 22 e) (t2 := I t 2) (by
          rcases hop with q | q | q
          · exact Or.inr (Or.inr (Or.inr (Or.inr (Or.inl q))))
          · exact Or.inr (Or.inr (Or.inr (Or.inr (Or.inr (Or.inl q)))))
          · exact Or.inr (Or.inr (Or.inr (Or.inr (Or.inr (Or.inr (Or.inl q))))))) (f := fun P I t b => tof d kd P I t b) hl hr rfl tx ty
        refine ⟨by omega, v, up2 ν2 40 sp v, cmp01 (by rcases hop with q | q | q; exact Or.inl q.1; exact Or.inr (Or.inl q.1); exact Or.inr (Or.inr q.1)) v2, ?_, fun N => ?_, ?_⟩
        · rw [kt, if_neg (by decide), if_neg (by decide), if_pos rfl]
          exact v1
        · rw [show N + (e + 1 - a) = (N + 1 + (e - m)) + (m - a) by omega, s1, s2]
          rw [q4] at v2
          exact rb_two (by omega) hE (by omega) (by rw [r2.2.2 22 (by decide), r1.2.2 22 (by decide), hν 22 (by decide)]; exact q4) q1 q2 q3 (by rw [r2.2.1 sp (by omega)]; exact r1.1) r2.1 v2
        · refine ⟨up2_same _ _ _ _, fun j hj => ?_, fun k hk => ?_⟩
          · rw [up2_ne (by omega), r2.2.1 j (by omega), r1.2.1 j hj]
          · rw [up2_k hk, r2.2.2 k hk, r1.2.2 k hk]
      · obtain ⟨_, x, ν1, bx, tx, s1, r1⟩ := ih l a m sp ν tl (by omega) (by omega) hν
        obtain ⟨_, y, ν2, by_, ty, s2, r2⟩ := ih r m e (sp + 1) ν1 tr (by omega) (by omega) (fun k hk => by rw [r1.2.2 k hk]; exact hν k hk)
        have hq : ∃ q, 2 ≤ q ∧ q < 20 ∧ q ≠ 9 ∧ μ 22 e = nI q := by
          rcases hop with q | q
          · exact ⟨10, by decide, by decide, by decide, q.1⟩
          · exact ⟨11, by decide, by decide, by decide, q.1⟩
        obtain ⟨q, q1, q2, q3, q4⟩ := hq
        obtain ⟨v, v1, v2⟩ := two_of (P := P) (I := I) (b := b) (ν := ν2) (x := x) (y := y) (d := d) (q := μ 22 e) (t2 := I t 2) (by
          rcases hop with q | q
          · exact Or.inr (Or.inr (Or.inr (Or.inr (Or.inr (Or.inr (Or.inr (Or.inl ⟨q.1, q.2, bx, by_⟩)))))))
          · exact Or.inr (Or.inr (Or.inr (Or.inr (Or.inr (Or.inr (Or.inr (Or.inr ⟨q.1, q.2, bx, by_⟩)))))))) (f := fun P I t b => tof d kd P I t b) hl hr rfl tx ty
        refine ⟨by omega, v, up2 ν2 40 sp v, log01 (by rcases hop with q | q; exact Or.inl q.1; exact Or.inr q.1) bx by_ v2, ?_, fun N => ?_, ?_⟩
        · rw [kt, if_neg (by decide), if_neg (by decide), if_pos rfl]
          exact v1
        · rw [show N + (e + 1 - a) = (N + 1 + (e - m)) + (m - a) by omega, s1, s2]
          rw [q4] at v2
          exact rb_two (by omega) hE (by omega) (by rw [r2.2.2 22 (by decide), r1.2.2 22 (by decide), hν 22 (by decide)]; exact q4) q1 q2 q3 (by rw [r2.2.1 sp (by omega)]; exact r1.1) r2.1 v2
        · refine ⟨up2_same _ _ _ _, fun j hj => ?_, fun k hk => ?_⟩
          · rw [up2_ne (by omega), r2.2.1 j (by omega), r1.2.1 j hj]
          · rw [up2_k hk, r2.2.2 k hk, r1.2.2 k hk]
    · obtain ⟨_, x, ν1, bx, tx, s1, r1⟩ := ih l a e sp ν tl (by omega) (by omega) hν
      refine ⟨by omega, nI 1 - x, up2 ν1 40 sp (nI 1 - x), ?_, ?_, fun N => ?_, ?_⟩
      · unfold i01
        rcases bx with rfl | rfl <;> decide
      · rw [kt, if_neg (by decide), if_neg (by decide), if_neg (by decide), if_pos rfl]
        unfold x11_of
        rw [hl, Option.bind_some]
        show ((tof d kd P I l b).bind fun r2 => some (nI 1 - r2)) = _
        rw [tx]
        rfl
      · rw [show N + (e + 1 - a) = (N + 1) + (e - a) by omega, s1]
        exact rb_not (by omega) hE (by omega) (by rw [r1.2.2 22 (by decide), hν 22 (by decide)]; exact hop) r1.1
      · refine ⟨up2_same _ _ _ _, fun j hj => ?_, fun k hk => ?_⟩
        · rw [up2_ne (by omega), r1.2.1 j hj]
        · rw [up2_k hk, r1.2.2 k hk]
end EVAL
