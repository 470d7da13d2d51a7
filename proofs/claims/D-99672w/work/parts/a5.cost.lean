/-! ===== who hears whom, ants ===== -/
def CF (f : Nat → Option Nat) (n z : Nat) (J ν : Mem) : Prop := (∀ h, h < n → (f h = none ∧ J (z + 2424) h = (1000000 : Int32) ∧ ν 41 h = (100000000 : Int32)) ∨ ∃ v, f h = some v ∧ v ≤ 792 * fb_ct (fun k => (f k).isSome) n ∧ J (z + 2424) h = nI v ∧ ν 41 h = nI v)
theorem CF.set {f : Nat → Option Nat} {n z : Nat} {J ν : Mem} (h : CF f n z J ν) {b w : Nat} (hb : b < n) (hw : (∃ v, f b = some v ∧ w ≤ v) ∨ (f b = none ∧ w ≤ 792 * fb_ct (fun k => (f k).isSome) n + 792)) : CF (fun k => if k = b then some w else f k) n z (up2 J (z + 2424) b (nI w)) (up2 ν 41 b (nI w)) := by
  have hf : (fun k => ((fun k => if k = b then some w else f k) k).isSome) = (fun k => if k = b then true else (f k).isSome) := by
    funext k
    by_cases e : k = b
    · dsimp only; rw [if_pos e, if_pos e]; rfl
    · dsimp only; rw [if_neg e, if_neg e]
  have hu := fb_ct_upd (fun k => (f k).isSome) true hb
  rw [if_pos rfl] at hu
  intro k hk
  rw [hf]
  by_cases e : k = b
  · subst e
    dsimp only
    rw [if_pos rfl, up2_same, up2_same]
    refine Or.inr ⟨w, rfl, ?_, rfl, rfl⟩
    rcases hw with ⟨v, e1, e2⟩ | ⟨e1, e2⟩
    · rcases h k hk with ⟨q, _⟩ | ⟨v', q, hv, _⟩
      · rw [e1] at q; cases q
      · rw [e1] at q; cases q
        rw [e1, if_pos (show (some v).isSome = true from rfl)] at hu
        omega
    · rw [e1, if_neg (by decide)] at hu
      omega
  · dsimp only
    rw [if_neg e, up2_ne (Or.inr e), up2_ne (Or.inr e)]
    rcases h k hk with ⟨q, q2⟩ | ⟨v', q, hv, q2⟩
    · exact Or.inl ⟨q, q2⟩
    · refine Or.inr ⟨v', q, ?_, q2⟩
      have : (if (f b).isSome = true then 1 else 0) ≤ 1 := by split <;> decide
      omega
theorem far_c : ∀ v, v ≤ 10000 → ¬ (1000000 : Int32) ≤ nI v := fun v hv => nI_ge (a := v) (b := 1000000) (by omega) (by decide)
theorem bit1_0 {β : Bool} : nI (if β then 1 else 0) = 0 ↔ β = false := by cases β <;> decide
section COST
variable {kd : Kd} {z n nt : Nat} {P : Ptr} {I μ : Mem}
theorem costs2 (A : BA kd (z + 2) n nt P I μ) (S : ST (z + 2) P I μ P I μ) (hnt : nt ≠ z + 2424) {x : Nat} (hx : x < n) (tog : Bool) : ok2 (x0_laysCosts kd P I z (nI x) tog) (m_findsCosts μ (nI x) (!tog)) (fun J ν => (∃ f, CF f n z J ν) ∧ (∀ c, c ≠ z + 2424 → J c = I c) ∧ ∀ k, k ≠ 41 → ν k = μ k) := by
  have hn := A.hn
  unfold x0_laysCosts m_findsCosts
  refine ok2_jj (fun J ν => (∃ f, CF f n z J ν) ∧ (∀ c, c ≠ z + 2424 → J c = I c) ∧ ∀ k, k ≠ 41 → ν k = μ k) ?_ (fun k k' hk => ?_)
  · rintro J ν hJ
    refine ok2_for n (fun i s s' => s.1 = nI i ∧ s'.1 = nI i ∧ (∃ f, CF f n z s.2 s'.2) ∧ (∀ c, c ≠ z + 2424 → s.2 c = I c) ∧ ∀ k, k ≠ 41 → s'.2 k = μ k) (by omega) ?_ ⟨rfl, rfl, hJ⟩
    rintro again again' i ⟨_, J⟩ ⟨_, ν⟩ hi ⟨q1, q2, hf, f1, f2⟩ ih
    dsimp only at q1 q2 hf f1 f2 ⊢
    subst q1 q2
    refine ok2_ii (by rw [f1 (z + 2) (by omega), f2 6 (by decide), S.br.houses, A.hm]) (fun _ _ => ok2_some ⟨hf, f1, f2⟩) (fun c _ => ?_)
    rw [f1 (z + 2) (by omega), S.br.houses, A.hm] at c
    have hlt := nle_iff (by omega) (by omega) c
    refine ok2_for n (fun a s s' => s.1 = nI a ∧ s'.1 = nI a ∧ (∃ f, CF f n z s.2 s'.2) ∧ (∀ c, c ≠ z + 2424 → s.2 c = I c) ∧ ∀ k, k ≠ 41 → s'.2 k = μ k) (by omega) ?_ ⟨rfl, rfl, hf, f1, f2⟩
    clear hf f1 f2
    rintro ag ag' a ⟨_, J⟩ ⟨_, ν⟩ ha ⟨q1, q2, ⟨f, hf⟩, f1, f2⟩ ih2
    dsimp only at q1 q2 hf f1 f2 ⊢
    subst q1 q2
    refine ok2_ii (by rw [f1 (z + 2) (by omega), f2 6 (by decide), S.br.houses, A.hm]) (fun _ _ => ?_) (fun c _ => ?_)
    · rw [nI_add]
      exact ih hlt _ _ ⟨rfl, rfl, ⟨f, hf⟩, f1, f2⟩
    rw [f1 (z + 2) (by omega), S.br.houses, A.hm] at c
    have halt := nle_iff (by omega) (by omega) c
    obtain ⟨m, hm, em⟩ := A.nr a (by omega)
    rcases hf a halt with ⟨fa, ja, na⟩ | ⟨va, fa, _, ja, na⟩
    · -- none there yet: x goes on at once, the model passes all by
      have go : ∀ ν', (∃ f, CF f n z J ν') → (∀ k, k ≠ 41 → ν' k = μ k) → ok2 (ag (nI (a + 1), J)) (ag' (nI (a + 1), ν')) (fun J ν => (∃ f, CF f n z J ν) ∧ (∀ c, c ≠ z + 2424 → J c = I c) ∧ ∀ k, k ≠ 41 → ν k = μ k) := fun ν' h1 h2 => ih2 halt _ _ ⟨rfl, rfl, h1, f1, h2⟩
      have left : lp (fun (again11 : Int32 × Mem → Option Mem) (j10 : Int32 × Mem) => if (j10.2 (z + 2) 14) ≤ j10.1 then ag ((nI a + (nI 1)), j10.2) else (rd j10.2 (z + 2424) 12 (nI a)).bind fun v13 => if (1000000 : Int32) ≤ v13 then ag ((nI a + (nI 1)), j10.2) else (pk kd (P (z + 2) 13) (20, 12, 0)).bind fun b14 => (rd j10.2 b14 12 (nI a)).bind fun v16 => if ((v16 >>> (j10.1 &&& 31)) &&& (nI 1)) = 0 then again11 ((j10.1 + (nI 1)), j10.2) else (rd j10.2 (z + 2424) 12 j10.1).bind fun v17 => jn (fun (j18 : Int32) => (wr j10.2 (z + 2424) 12 j10.1 (imin v17 j18)).bind fun I21 => again11 ((j10.1 + (nI 1)), I21)) (fun k19 => if (bI tog) = 0 then (rd j10.2 (z + 2424) 12 (nI a)).bind fun v22 => (x0_step j10.2 z (nI a) j10.1).bind fun r23 => k19 (imax v22 r23) else (rd j10.2 (z + 2424) 12 (nI a)).bind fun v25 => (x0_step j10.2 z (nI a) j10.1).bind fun r26 => k19 (v25 + r26))) fuel ((nI 0), J) = ag (nI (a + 1), J) := by
        rw [fuel_10, lp_s]
        dsimp only
        rw [rd_eq (i := a) (by omega) (by decide), Option.bind_some, ja, if_pos (show (1000000 : Int32) ≤ 1000000 by decide), nI_add]
        split <;> rfl
      rw [left]
      refine ok2_forr n (fun b s => s = (nI b, ν)) (by omega) ?_ rfl
      rintro ar b _ hb rfl ih3
      dsimp only
      refine ok2_ir (fun _ => ?_) (fun c3 => ?_)
      · rw [nI_add]; exact go ν ⟨f, hf⟩ f2
      · rw [f2 6 (by decide), A.hm] at c3
        have hb3 := nle_iff (by omega) (by omega) c3
        rw [rd_eq (i := a) (by omega) (by decide), Option.bind_some, f2 38 (by decide), em, has_m _ hm (by omega), Option.bind_some, rd_eq (i := a) (by omega) (by decide), Option.bind_some, na, if_pos (rfl : (100000000 : Int32) = 100000000), nI_add]
        exact ok2_ir (fun _ => ih3 hb3 _ rfl) (fun _ => ih3 hb3 _ rfl)
    · refine ok2_for n (fun b s s' => s.1 = nI b ∧ s'.1 = nI b ∧ (∃ f, CF f n z s.2 s'.2 ∧ ∃ v, f a = some v) ∧ (∀ c, c ≠ z + 2424 → s.2 c = I c) ∧ ∀ k, k ≠ 41 → s'.2 k = μ k) (by omega) ?_ ⟨rfl, rfl, ⟨f, hf, va, fa⟩, f1, f2⟩
      clear hf f1 f2 fa ja na
      rintro ar ar' b ⟨_, J⟩ ⟨_, ν⟩ hb ⟨q1, q2, ⟨f, hf, va, fa⟩, f1, f2⟩ ih3
      dsimp only at q1 q2 hf f1 f2 ⊢
      subst q1 q2
      refine ok2_ii (by rw [f1 (z + 2) (by omega), f2 6 (by decide), S.br.houses, A.hm]) (fun _ _ => ?_) (fun c3 _ => ?_)
      · rw [nI_add]
        exact ih2 halt _ _ ⟨rfl, rfl, ⟨f, hf⟩, f1, f2⟩
      rw [f1 (z + 2) (by omega), S.br.houses, A.hm] at c3
      have hb3 := nle_iff (by omega) (by omega) c3
      have hct : fb_ct (fun k => (f k).isSome) n ≤ n := fb_ct_le _ _
      rcases hf a halt with ⟨fa', _⟩ | ⟨va', fa', hva, ja, na⟩
      · rw [fa] at fa'; cases fa'
      rw [fa] at fa'; cases fa'
      have hnx : J nt a = nI m := by rw [f1 nt hnt, A.ni a (by omega), em]
      rw [rd_eq (i := a) (by omega) (by decide), Option.bind_some, ja, if_neg (far_c va (by omega)), pk_of A.np A.nk, Option.bind_some, rd_eq (i := a) (by omega) (by decide), Option.bind_some, hnx, bit1 hm (by omega), rd_eq (i := a) (by omega) (by decide), Option.bind_some, f2 38 (by decide), em, has_m _ hm (by omega), Option.bind_some, nI_add]
      have go : ∀ J' ν' f', CF f' n z J' ν' → (∃ v, f' a = some v) → (∀ c, c ≠ z + 2424 → J' c = I c) → (∀ k, k ≠ 41 → ν' k = μ k) → ok2 (ar (nI (b + 1), J')) (ar' (nI (b + 1), ν')) (fun J ν => (∃ f, CF f n z J ν) ∧ (∀ c, c ≠ z + 2424 → J c = I c) ∧ ∀ k, k ≠ 41 → ν k = μ k) := fun J' ν' f' h1 h2 h3 h4 => ih3 hb3 _ _ ⟨rfl, rfl, ⟨f', h1, h2⟩, h3, h4⟩
      cases hbit : m.testBit b with
      | false =>
        rw [if_pos bF]
        exact ok2_tl (by decide) (go _ _ f hf ⟨va, fa⟩ f1 f2)
      | true =>
        rw [if_neg bT]
        refine ok2_fl (by decide) ?_
        obtain ⟨qa, hqa, ea⟩ := sm_nI S (show a < 12 by omega)
        obtain ⟨qb, hqb, eb⟩ := sm_nI S (show b < 12 by omega)
        have brJ : BR J (z + 2) ν := S.br.cong (fun c h1 h2 _ => f1 c (by omega)) (fun k hk => f2 k (by omega))
        have esm : ∀ h, h < 12 → sm ν h = sm μ h := fun h hh => by unfold sm wl; rw [f2 1 (by decide)]
        have sx : ∀ h, h < 12 → x3_sum J (z + 247 + 2 * h) = some (sm μ h) := fun h hh => by
          rw [show z + 247 + 2 * h = z + 2 + 245 + 2 * h by omega, bsm brJ hh, esm h hh]
        have stx : x0_step J z (nI a) (nI b) = some (nI (qa + qb)) := by
          unfold x0_step x0_at
          rw [ix_eq (i := a) (by omega) (by decide), Option.bind_some, Option.bind_some, sx a (by omega), Option.bind_some, ix_eq (i := b) (by omega) (by decide), Option.bind_some, Option.bind_some, sx b (by omega), Option.bind_some, ea, eb, nI_add]
        have stm : m_stepCost ν (nI a) (nI b) = some (nI (qa + qb)) := by
          unfold m_stepCost
          rw [sum_m ν (by omega), Option.bind_some, sum_m ν (by omega), Option.bind_some, esm a (by omega), esm b (by omega), ea, eb, nI_add]
        rw [rd_eq (i := b) (by omega) (by decide), Option.bind_some, rd_eq (i := a) (by omega) (by decide), Option.bind_some, na, if_neg (show ¬ nI va = (100000000 : Int32) from fun e => by
          have : va = 100000000 := (nI_eq (by omega) (by decide)).mp e
          omega)]
        have fin : ∀ w, w ≤ va + 792 → ok2 ((wr J (z + 2424) 12 (nI b) (imin (J (z + 2424) b) (nI w))).bind fun I21 => ar (nI (b + 1), I21)) ((rd ν 41 12 (nI b)).bind fun v19 => (m_lesser ν v19 (nI w)).bind fun r20 => (wr ν 41 12 (nI b) r20).bind fun μ21 => ar' (nI (b + 1), μ21)) (fun J ν => (∃ f, CF f n z J ν) ∧ (∀ c, c ≠ z + 2424 → J c = I c) ∧ ∀ k, k ≠ 41 → ν k = μ k) := by
          intro w hw
          rw [rd_eq (i := b) (by omega) (by decide), Option.bind_some, imin_lesser, Option.bind_some, wr_eq (i := b) (by omega) (by decide), Option.bind_some, wr_eq (i := b) (by omega) (by decide), Option.bind_some]
          have fr1 : ∀ x, ∀ c, c ≠ z + 2424 → up2 J (z + 2424) b x c = I c := fun x c hc => by rw [up2_k hc]; exact f1 c hc
          have fr2 : ∀ x, ∀ k, k ≠ 41 → up2 ν 41 b x k = μ k := fun x k hk => by rw [up2_k hk]; exact f2 k hk
          have some' : ∀ w', ∃ v, (fun k => if k = b then some w' else f k) a = some v := fun w' => by
            by_cases e : a = b
            · exact ⟨w', if_pos e⟩
            · exact ⟨va, by dsimp only; rw [if_neg e]; exact fa⟩
          rcases hf b hb3 with ⟨fb, jb, nb⟩ | ⟨vb, fb, hvb, jb, nb⟩
          · have e1 : imin (1000000 : Int32) (nI w) = nI w := by
              unfold imin
              exact if_pos (nI_lt (b := 1000000) (by omega) (by decide))
            have e2 : imin (100000000 : Int32) (nI w) = nI w := by
              unfold imin
              exact if_pos (nI_lt (b := 100000000) (by omega) (by decide))
            rw [jb, nb, e1, e2]
            exact go _ _ _ (hf.set hb3 (Or.inr ⟨fb, by omega⟩)) (some' _) (fr1 _) (fr2 _)
          · rw [jb, nb, imin_nI (by omega) (by omega)]
            exact go _ _ _ (hf.set hb3 (Or.inl ⟨vb, fb, Nat.min_le_left _ _⟩)) (some' _) (fr1 _) (fr2 _)
        rw [jn_eq, jn_eq, stx, stm]
        simp only [Option.bind_some, imax_greater]
        rw [nI_add, imax_nI (by omega) (by omega)]
        cases tog with
        | false => rw [if_pos bF, if_neg (show ¬ bI (!false) = 0 by decide)]; exact fin _ (by omega)
        | true => rw [if_neg bT, if_pos (show bI (!true) = 0 by decide)]; exact fin _ (by omega)
  · refine ok2_forl 12 (fun i s => s.1 = nI i ∧ (∀ h, h < i → s.2 (z + 2424) h = if h = x then nI 0 else (1000000 : Int32)) ∧ ∀ c, c ≠ z + 2424 → s.2 c = I c) (by decide) ?_ ⟨rfl, fun h q => by omega, fun _ _ => rfl⟩
    rintro again i ⟨_, J⟩ hi ⟨q1, h1, f1⟩ ih
    dsimp only at q1 h1 f1 ⊢
    subst q1
    refine ok2_il (fun c => ?_) (fun c => ?_)
    · have := le_iff (by decide) (by omega) c
      refine ok2_forr n (fun i s => s.1 = nI i ∧ (∀ h, h < i → s.2 41 h = if h = x then nI 0 else (100000000 : Int32)) ∧ ∀ k, k ≠ 41 → s.2 k = μ k) (by omega) ?_ ⟨rfl, fun h q => by omega, fun _ _ => rfl⟩
      rintro ag i2 ⟨_, ν⟩ hi2 ⟨q2, h2, f2⟩ ih2
      dsimp only at q2 h2 f2 ⊢
      subst q2
      refine ok2_ir (fun c2 => ?_) (fun c2 => ?_)
      · rw [f2 6 (by decide), A.hm] at c2
        have := le_iff (by omega) (by omega) c2
        refine hk _ _ ⟨⟨fun h => if h = x then some 0 else none, fun h hh => ?_⟩, f1, f2⟩
        rw [h1 h (by omega), h2 h (by omega)]
        by_cases e : h = x
        · dsimp only; rw [if_pos e, if_pos e, if_pos e]; exact Or.inr ⟨0, rfl, Nat.zero_le _, rfl, rfl⟩
        · dsimp only; rw [if_neg e, if_neg e, if_neg e]; exact Or.inl ⟨rfl, rfl, rfl⟩
      · rw [f2 6 (by decide), A.hm] at c2
        have hlt := nle_iff (by omega) (by omega) c2
        rw [jn_eq, nI_add]
        dsimp only
        rw [wr_eq (i := i2) (by omega) (by decide), Option.bind_some, wr_eq (i := i2) (by omega) (by decide), Option.bind_some]
        have go : ∀ y, y = (if i2 = x then nI 0 else (100000000 : Int32)) → ok2 (k J) (ag (nI (i2 + 1), up2 ν 41 i2 y)) (fun J ν => (∃ f, CF f n z J ν) ∧ (∀ c, c ≠ z + 2424 → J c = I c) ∧ ∀ k, k ≠ 41 → ν k = μ k) := by
          rintro _ rfl
          refine ih2 hlt _ ⟨rfl, fun h hh => ?_, fun k k1 => by dsimp only; rw [up2_k k1]; exact f2 k k1⟩
          dsimp only
          by_cases e : h = i2
          · subst e; rw [up2_same]
          · rw [up2_ne (Or.inr e)]; exact h2 h (by omega)
        refine ok2_ir (fun c3 => go _ ?_) (fun c3 => go _ ?_)
        · rw [nI_eq (by omega) (by omega)] at c3; rw [if_pos c3]
        · rw [nI_eq (by omega) (by omega)] at c3; rw [if_neg c3]
    · have hlt := nle_iff (by decide) (by omega) c
      rw [jn_eq, nI_add]
      dsimp only
      rw [wr_eq (i := i) (by omega) (by decide), Option.bind_some, wr_eq (i := i) (by omega) (by decide), Option.bind_some]
      have inv : ∀ y, y = (if i = x then nI 0 else (1000000 : Int32)) → ∀ h, h < i + 1 → up2 J (z + 2424) i y (z + 2424) h = if h = x then nI 0 else (1000000 : Int32) := by
        rintro _ rfl h hh
        by_cases e : h = i
        · subst e; rw [up2_same]
        · rw [up2_ne (Or.inr e)]; exact h1 h (by omega)
      have fr : ∀ y, ∀ c, c ≠ z + 2424 → up2 J (z + 2424) i y c = I c := fun y c k1 => by rw [up2_k k1]; exact f1 c k1
      refine ok2_il (fun c3 => ?_) (fun c3 => ?_)
      · rw [nI_eq (by omega) (by omega)] at c3
        exact ih hlt (nI (i + 1), up2 J (z + 2424) i (nI 0)) ⟨rfl, by dsimp only; exact inv (nI 0) (by rw [if_pos c3]), by dsimp only; exact fr (nI 0)⟩
      · rw [nI_eq (by omega) (by omega)] at c3
        exact ih hlt (nI (i + 1), up2 J (z + 2424) i 1000000) ⟨rfl, by dsimp only; exact inv 1000000 (by rw [if_neg c3]), by dsimp only; exact fr 1000000⟩
end COST
