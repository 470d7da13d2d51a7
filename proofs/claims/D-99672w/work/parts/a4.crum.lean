/-! ===== the crumbs ===== -/
theorem ct_rows (p : Nat → Bool) (b : Nat) : ∀ a, fb_ct p (b * a) = fb_sm (fun r => fb_ct (fun c => p (b * r + c)) b) a := by
  intro a
  induction a with
  | zero => rfl
  | succ a ih => rw [Nat.mul_succ, fb_ct_split, ih, fb_sm_succ]
theorem ct_shift {p q : Nat → Bool} (h0 : ∀ c, c < 4 → p c = false) (h1 : ∀ c, c < 33 → p (4 + c) = q c) (h2 : ∀ c, c < 4 → p (37 + c) = false) : fb_ct p 41 = fb_ct q 33 := by
  rw [show (41 : Nat) = 4 + 37 from rfl, fb_ct_split, fb_ct_zero.mpr h0, Nat.zero_add, show (37 : Nat) = 33 + 4 from rfl, fb_ct_split, fb_ct_cong h1]
  have e2 : fb_ct (fun k => p (4 + (33 + k))) 4 = 0 := fb_ct_zero.mpr (fun k hk => by have := h2 k hk; rwa [show 37 + k = 4 + (33 + k) by omega] at this)
  rw [e2, Nat.add_zero]
theorem sm_shift {f g : Nat → Nat} (h0 : ∀ c, c < 4 → f c = 0) (h1 : ∀ c, c < 33 → f (4 + c) = g c) (h2 : ∀ c, c < 4 → f (37 + c) = 0) : fb_sm f 41 = fb_sm g 33 := by
  rw [show (41 : Nat) = 4 + 37 from rfl, fb_sm_split, fb_sm_cong (g := fun _ => 0) h0, fb_sm_const, Nat.mul_zero, Nat.zero_add, show (37 : Nat) = 33 + 4 from rfl, fb_sm_split, fb_sm_cong h1]
  have e2 : fb_sm (fun k => f (4 + (33 + k))) 4 = fb_sm (fun _ => 0) 4 := fb_sm_cong (fun k hk => by have := h2 k hk; rwa [show 37 + k = 4 + (33 + k) by omega] at this)
  rw [e2, fb_sm_const, Nat.mul_zero, Nat.add_zero]
theorem grid {p q : Nat → Bool} (h : ∀ u v, u < 33 → v < 33 → p (41 * (u + 4) + (v + 4)) = q (33 * u + v)) (h0 : ∀ k, k < 1681 → (∀ u v, u < 33 → v < 33 → k ≠ 41 * (u + 4) + (v + 4)) → p k = false) : fb_ct p 1681 = fb_ct q 1089 := by
  rw [show (1681 : Nat) = 41 * 41 from rfl, show (1089 : Nat) = 33 * 33 from rfl, ct_rows, ct_rows]
  have z : ∀ r, r < 4 ∨ (37 ≤ r ∧ r < 41) → fb_ct (fun c => p (41 * r + c)) 41 = 0 := fun r hr => fb_ct_zero.mpr (fun c hc => h0 _ (by omega) (fun u v hu hv => by omega))
  refine sm_shift (fun r hr => z r (Or.inl hr)) (fun r hr => ?_) (fun r hr => z _ (by omega))
  refine ct_shift (fun c hc => h0 _ (by omega) (fun u v hu hv => by omega)) (fun c hc => ?_) (fun c hc => h0 _ (by omega) (fun u v hu hv => by omega))
  rw [show 41 * (4 + r) + (4 + c) = 41 * (r + 4) + (c + 4) by omega]
  exact h r c hr hc
theorem apart_0 (μ : Mem) (x : Int32) : m_apart μ x (nI 0) = some (iabs x) := by
  unfold m_apart iabs
  rw [nI_0]
  by_cases h : x ≤ 0
  · rw [if_pos h]
    by_cases h2 : 0 ≤ x
    · have e : x = 0 := Int32.le_antisymm h h2
      rw [if_pos h2, e]; rfl
    · rw [if_neg h2]
  · rw [if_neg h, if_pos (fa_of_lt (fa_of_nle h)).1, Int32.sub_zero]
def pu (w u : Nat) : Nat := if w = 0 then u + 1 else if w = 2 then u - 1 else u
def pv (w v : Nat) : Nat := if w = 1 then v + 1 else if w = 3 then v - 1 else v
/-- the two grids -/
def GR (z : Nat) (J ν : Mem) : Prop := (∀ u v, u < 33 → v < 33 → J (z + 2437) (33 * u + v) = ν 56 (41 * (u + 4) + (v + 4))) ∧ ∀ k, k < 1681 → (∀ u v, u < 33 → v < 33 → k ≠ 41 * (u + 4) + (v + 4)) → ν 56 k = nI 0
theorem GR.set {z : Nat} {J ν : Mem} (h : GR z J ν) {u v : Nat} (hu : u < 33) (hv : v < 33) (x : Int32) : GR z (up2 J (z + 2437) (33 * u + v) x) (up2 ν 56 (41 * (u + 4) + (v + 4)) x) := by
  constructor
  · intro u' v' hu' hv'
    by_cases e : u' = u ∧ v' = v
    · obtain ⟨rfl, rfl⟩ := e
      rw [up2_same, up2_same]
    · rw [up2_ne (by omega), up2_ne (by omega)]
      exact h.1 u' v' hu' hv'
  · intro k hk hn
    rw [up2_ne (Or.inr (hn u v hu hv))]
    exact h.2 k hk hn
theorem off16 {u : Nat} (x : Int32) (h : x = nI u - nI 16) : x + nI 16 = nI u ∧ x + nI 20 = nI (u + 4) := by
  subst h
  have e : nI u - nI 16 + nI 16 = nI u := Int32.sub_add_cancel _ _
  refine ⟨e, ?_⟩
  rw [show nI 20 = nI 16 + nI 4 from rfl, ← Int32.add_assoc, e, nI_add]
theorem crumbs2 {I : Mem} {z : Nat} {μ : Mem} (R : R1 I μ (z + 193) 16 54 55 0 3) (x : Int32) : ok2 (x0_crumbs I z x) (m_crumbs μ x) (fun r t => r.1 = t.1 ∧ (∀ a, a ≠ z + 2437 → r.2 a = I a) ∧ ∀ k, k ≠ 0 → k ≠ 56 → t.2 k = μ k) := by
  obtain ⟨c, hc, e1, e2, hR⟩ := R
  unfold x0_crumbs m_crumbs
  rw [nm_eq, isIn_x, Option.bind_some, isIn_m, Option.bind_some]
  refine ok2_ii Iff.rfl (fun _ _ => ok2_some ⟨rfl, fun _ _ => rfl, fun k h0 _ => up2_k h0⟩) (fun _ _ => ?_)
  refine ok2_jj (fun j j' => (∀ k, k < 1089 → j (z + 2437) k = nI 0) ∧ (∀ a, a ≠ z + 2437 → j a = I a) ∧ (∀ k, k < 1681 → j' 56 k = nI 0) ∧ ∀ k, k ≠ 0 → k ≠ 56 → j' k = μ k) ?_ (fun k k' hk => ?_)
  · rintro J ν ⟨h1, h2, h3, h4⟩
    rw [rd_eq (i := 544) (by decide) (by decide), Option.bind_some, wr_eq (i := 544) (by decide) (by decide), Option.bind_some, wr_eq (i := 840) (by decide) (by decide), Option.bind_some, h1 544 (by decide), nI_add]
    have g0 : GR z J ν := ⟨fun u v hu hv => by rw [h1 _ (by omega), h3 _ (by omega)], fun k hk _ => h3 k hk⟩
    have g1 := g0.set (u := 16) (v := 16) (by decide) (by decide) (nI 1)
    refine ok2_jj (fun j j' => j.1 = j'.2.1 ∧ j.2.1 = j'.1 ∧ GR z j.2.2 j'.2.2 ∧ (∀ a, a ≠ z + 2437 → j.2.2 a = I a) ∧ ∀ k, k ≠ 0 → k ≠ 56 → j'.2.2 k = μ k) ?_ (fun k k' hk => ?_)
    · rintro ⟨ea, no, J⟩ ⟨no', ea', ν⟩ ⟨q1, q2, g, f1, f2⟩
      dsimp only at q1 q2 g f1 f2 ⊢
      subst q1 q2
      rw [jn_eq]
      by_cases x0 : x = 0
      · refine ok2_tr x0 ?_
        rw [apart_0, apart_0, Option.bind_some, Option.bind_some]
        refine ok2_forl 1089 (fun i s => s.2 = nI i) (by decide) ?_ rfl
        rintro again i ⟨q, _⟩ hi rfl ih
        dsimp only
        refine ok2_il (fun _ => ok2_tl x0 (ok2_some ⟨Int32.add_comm _ _, f1, f2⟩)) (fun cc => ?_)
        have hlt := nle_iff (by decide) (by omega) cc
        rw [rd_eq (i := i) (by omega) (by decide), Option.bind_some, jn_eq, nI_add]
        exact ok2_il (fun _ => ih hlt _ rfl) (fun _ => ih hlt _ rfl)
      · refine ok2_fr x0 ?_
        have hcnt := grid (p := fun k => decide (¬ ν 56 k ≤ nI 1)) (q := fun k => decide (¬ J (z + 2437) k ≤ nI 1)) (fun u v hu hv => by rw [g.1 u v hu hv]) (fun k hk hn => by rw [g.2 k hk hn]; decide)
        refine ok2_forl 1089 (fun i s => s = (nI (fb_ct (fun k => decide (¬ J (z + 2437) k ≤ nI 1)) i), nI i)) (by decide) ?_ rfl
        rintro again i _ hi rfl ih
        dsimp only
        refine ok2_il (fun cc => ?_) (fun cc => ?_)
        · have := le_iff (by decide) (by omega) cc
          refine ok2_fl x0 ?_
          rw [show i = 1089 by omega, ← hcnt]
          refine ok2_forr 1681 (fun i s => s = (nI (fb_ct (fun k => decide (¬ ν 56 k ≤ nI 1)) i), nI i)) (by decide) ?_ rfl
          rintro ag i2 _ hi2 rfl ih2
          dsimp only
          refine ok2_ir (fun c2 => ?_) (fun c2 => ?_)
          · have := le_iff (by decide) (by omega) c2
            rw [show i2 = 1681 by omega]
            exact ok2_some ⟨rfl, f1, f2⟩
          · have hlt := nle_iff (by decide) (by omega) c2
            have es : fb_ct (fun k => decide (¬ ν 56 k ≤ nI 1)) (i2 + 1) = _ := fb_ct_succ _ _
            rw [rd_eq (i := i2) (by omega) (by decide), Option.bind_some, nI_add, nI_add]
            refine ok2_ir (fun c3 => ?_) (fun c3 => ?_)
            · exact ih2 hlt _ (by rw [es, if_neg (by simp [c3])]; rfl)
            · exact ih2 hlt _ (by rw [es, if_pos (by simp [c3])])
        · have hlt := nle_iff (by decide) (by omega) cc
          have es : fb_ct (fun k => decide (¬ J (z + 2437) k ≤ nI 1)) (i + 1) = _ := fb_ct_succ _ _
          rw [rd_eq (i := i) (by omega) (by decide), Option.bind_some, jn_eq, nI_add]
          refine ok2_il (fun c3 => ?_) (fun c3 => ?_)
          · dsimp only
            rw [nI_add]
            exact ih hlt _ (by rw [es, if_neg (by simp [c3])])
          · dsimp only
            rw [nI_add]
            exact ih hlt _ (by rw [es, if_pos (by simp [c3])])
    · refine ok2_for c (fun i s s' => s.1 = s'.2.1 ∧ s.2.1 = s'.1 ∧ s.2.2.1 = nI i ∧ s'.2.2.1 = nI i ∧ (∃ u v, 16 ≤ u + i ∧ u ≤ 16 + i ∧ 16 ≤ v + i ∧ v ≤ 16 + i ∧ s.1 = nI v - nI 16 ∧ s.2.1 = nI u - nI 16) ∧ GR z s.2.2.2 s'.2.2.2 ∧ (∀ a, a ≠ z + 2437 → s.2.2.2 a = I a) ∧ ∀ k, k ≠ 0 → k ≠ 56 → s'.2.2.2 k = μ k) (by omega) ?_ ⟨rfl, rfl, rfl, rfl, ⟨16, 16, by decide, by decide, by decide, by decide, by rw [Int32.sub_self, nI_0], by rw [Int32.sub_self, nI_0]⟩, g1, fun a ha => by dsimp only; rw [up2_k ha]; exact h2 a ha, fun k k0 k1 => by dsimp only; rw [up2_k k1]; exact h4 k k0 k1⟩
      rintro again again' i ⟨ea, no, _, J⟩ ⟨no', ea', _, ν⟩ hi ⟨q1, q2, q3, q4, ⟨u, v, u1, u2, v1, v2, q5, q6⟩, g, f1, f2⟩ ih
      dsimp only at q1 q2 q3 q4 q5 q6 g f1 f2 ⊢
      subst q1 q2 q3 q4
      refine ok2_ii (by rw [f1 (z + 193) (by omega), f2 54 (by decide) (by decide), e1, e2]) (fun _ _ => hk _ _ ⟨rfl, rfl, g, f1, f2⟩) (fun cc _ => ?_)
      rw [f1 (z + 193) (by omega), e1] at cc
      have hlt := nle_iff (by omega) (by omega) cc
      obtain ⟨r1, w, _, hw, r2⟩ := hR i hlt
      have fx : x2_first J (z + 193) 16 (nI i) = some (nI w) := by
        unfold x2_first
        rw [ix_eq (by omega) (by decide), Option.bind_some, rd_eq (i := 0) (by decide) (by decide), Option.bind_some, f1 _ (by omega), r1, r2]
      have fm : rd ν 55 16 (nI i) = some (nI w) := by
        rw [rd_eq (i := i) (by omega) (by decide), f2 55 (by decide) (by decide), r2]
      have hu32 : pu w u < 33 := by unfold pu; repeat' split
                                    all_goals omega
      have hv32 : pv w v < 33 := by unfold pv; repeat' split
                                    all_goals omega
      have fin : ∀ ea2 no2 : Int32, ea2 = nI (pv w v) - nI 16 → no2 = nI (pu w u) - nI 16 → ok2 ((rd J (z + 2437) 1089 (((nI 33) * (no2 + (nI 16)) + ea2) + (nI 16))).bind fun v31 => (wr J (z + 2437) 1089 (((nI 33) * (no2 + (nI 16)) + ea2) + (nI 16)) (v31 + (nI 1))).bind fun I32 => again (ea2, no2, (nI i + (nI 1)), I32)) (nm ((((nI 41) * (no2 + (nI 20))) + ea2) + (nI 20)) fun v23 => (rd ν 56 1681 v23).bind fun v24 => (wr ν 56 1681 v23 (v24 + (nI 1))).bind fun μ25 => again' (no2, ea2, (nI i + (nI 1)), μ25)) (fun r t => r.1 = t.1 ∧ (∀ a, a ≠ z + 2437 → r.2 a = I a) ∧ ∀ k, k ≠ 0 → k ≠ 56 → t.2 k = μ k) := by
        intro ea2 no2 h1 h2
        have a1 := off16 no2 h2
        have a2 := off16 ea2 h1
        rw [nm_eq, Int32.add_assoc, Int32.add_assoc, a1.1, a1.2, a2.1, a2.2, pk_mul, pk_mul, nI_add, nI_add, nI_add, rd_eq (i := 33 * pu w u + pv w v) (by omega) (by decide), Option.bind_some, wr_eq (i := 33 * pu w u + pv w v) (by omega) (by decide), Option.bind_some, rd_eq (i := 41 * (pu w u + 4) + (pv w v + 4)) (by omega) (by decide), Option.bind_some, wr_eq (i := 41 * (pu w u + 4) + (pv w v + 4)) (by omega) (by decide), Option.bind_some, g.1 _ _ hu32 hv32]
        refine ih hlt _ _ ⟨rfl, rfl, rfl, rfl, ⟨pu w u, pv w v, ?_, ?_, ?_, ?_, h1, h2⟩, g.set hu32 hv32 _, fun a ha => ?_, fun k k0 k1 => ?_⟩
        · unfold pu; repeat' split
          all_goals omega
        · unfold pu; repeat' split
          all_goals omega
        · unfold pv; repeat' split
          all_goals omega
        · unfold pv; repeat' split
          all_goals omega
        · dsimp only; rw [up2_k ha]; exact f1 a ha
        · dsimp only; rw [up2_k k1]; exact f2 k k0 k1
      have sw : ∀ (a b : Int32), nI 33 * a + b = nI 33 * a + b := fun _ _ => rfl
      have p1 : ∀ q : Nat, nI q - nI 16 + nI 1 = nI (q + 1) - nI 16 := fun q => by rw [Int32.sub_eq_add_neg, Int32.sub_eq_add_neg, Int32.add_assoc, Int32.add_comm (-nI 16), ← Int32.add_assoc, nI_add]
      have m1 : ∀ q : Nat, 1 ≤ q → nI q - nI 16 + (-1 : Int32) = nI (q - 1) - nI 16 := fun q hq => by
        obtain ⟨p, rfl⟩ : ∃ p, q = p + 1 := ⟨q - 1, by omega⟩
        rw [Int32.sub_eq_add_neg, Int32.sub_eq_add_neg, Int32.add_assoc, Int32.add_comm (-nI 16), ← Int32.add_assoc, nI_m1, Nat.add_sub_cancel]
      simp only [fx, fm, Option.bind_some, jn_eq]
      have hw4 : w = 0 ∨ w = 1 ∨ w = 2 ∨ w = 3 := by omega
      have a0 : nI 0 = (0 : Int32) := rfl
      have a1 : ¬ nI 1 = (0 : Int32) := by decide
      have a2 : ¬ nI 2 = (0 : Int32) := by decide
      have a3 : ¬ nI 3 = (0 : Int32) := by decide
      have b01 : ¬ nI 0 = nI 1 := by decide
      have b03 : ¬ nI 0 = nI 3 := by decide
      have b12 : ¬ nI 1 = nI 2 := by decide
      have b21 : ¬ nI 2 = nI 1 := by decide
      have b23 : ¬ nI 2 = nI 3 := by decide
      have b32 : ¬ nI 3 = nI 2 := by decide
      have b31 : ¬ nI 3 = nI 1 := by decide
      rcases hw4 with rfl | rfl | rfl | rfl
      · simp only [if_pos a0, if_neg b01, if_neg b03]
        have := fin (ea + nI 0) (no + nI 1) (by rw [q5, add_z]; rfl) (by rw [q6, p1]; rfl)
        rw [add_z] at this ⊢
        exact this
      · simp only [if_neg a1, if_neg b12, if_true]
        have := fin (ea + nI 1) (no + nI 0) (by rw [q5, p1]; rfl) (by rw [q6, add_z]; rfl)
        rw [add_z] at this ⊢
        exact this
      · simp only [if_neg a2, if_neg b21, if_neg b23, if_true]
        have := fin (ea + nI 0) (no + (-1)) (by rw [q5, add_z]; rfl) (by rw [q6, m1 _ (by omega)]; rfl)
        rw [add_z] at this ⊢
        exact this
      · simp only [if_neg a3, if_neg b32, if_neg b31, if_true]
        have := fin (ea + (-1)) (no + nI 0) (by rw [q5, m1 _ (by omega)]; rfl) (by rw [q6, add_z]; rfl)
        rw [add_z] at this ⊢
        exact this
  · refine ok2_forl 1089 (fun i s => s.1 = nI i ∧ (∀ k, k < i → s.2 (z + 2437) k = nI 0) ∧ ∀ a, a ≠ z + 2437 → s.2 a = I a) (by decide) ?_ ⟨rfl, fun k h => by omega, fun _ _ => rfl⟩
    rintro again i ⟨_, J⟩ hi ⟨q1, h1, f1⟩ ih
    dsimp only at q1 h1 f1 ⊢
    subst q1
    refine ok2_il (fun cc => ?_) (fun cc => ?_)
    · have := le_iff (by decide) (by omega) cc
      refine ok2_forr 1681 (fun i s => s.1 = nI i ∧ (∀ k, k < i → s.2 56 k = nI 0) ∧ ∀ k, k ≠ 0 → k ≠ 56 → s.2 k = μ k) (by decide) ?_ ⟨rfl, fun k h => by omega, fun k k0 _ => up2_k k0⟩
      rintro ag i2 ⟨_, ν⟩ hi2 ⟨q2, h2, f2⟩ ih2
      dsimp only at q2 h2 f2 ⊢
      subst q2
      refine ok2_ir (fun c2 => ?_) (fun c2 => ?_)
      · have := le_iff (by decide) (by omega) c2
        exact hk _ _ ⟨fun k hk' => h1 k (by omega), f1, fun k hk' => h2 k (by omega), f2⟩
      · have hlt := nle_iff (by decide) (by omega) c2
        rw [wr_eq (i := i2) (by omega) (by decide), Option.bind_some, nI_add]
        refine ih2 hlt _ ⟨rfl, fun k hk' => ?_, fun k k0 k1 => ?_⟩
        · dsimp only
          by_cases e : k = i2
          · subst e; rw [up2_same]
          · rw [up2_ne (Or.inr e)]; exact h2 k (by omega)
        · dsimp only; rw [up2_k k1]; exact f2 k k0 k1
    · have hlt := nle_iff (by decide) (by omega) cc
      rw [wr_eq (i := i) (by omega) (by decide), Option.bind_some, nI_add]
      refine ih hlt _ ⟨rfl, fun k hk' => ?_, fun a ha => ?_⟩
      · dsimp only
        by_cases e : k = i
        · subst e; rw [up2_same]
        · rw [up2_ne (Or.inr e)]; exact h1 k (by omega)
      · dsimp only; rw [up2_k ha]; exact f1 a ha
