/-! ===== the slab: x's side ===== -/
theorem pow7 {i : Nat} (h : i ≤ 5) : 7 ^ i ≤ 16807 := Nat.le_trans (Nat.pow_le_pow_right (by decide) h) (by decide)
theorem far_x {s row : Nat} (hs : s < 16807) (hr : row < 5) : x0_far (nI s) (nI row) = some (nI (dg s row)) := by
  unfold x0_far
  rw [jn_eq]
  refine eq_for row (fun i st => st = (nI (s / 7 ^ i), nI i)) (by omega) ?_ (by rw [Nat.pow_zero, Nat.div_one])
  rintro again i _ hi rfl ih
  dsimp only
  have hq : s / 7 ^ i ≤ s := Nat.div_le_self _ _
  by_cases c : row ≤ i
  · rw [if_pos (nI_le c (by omega)), rem_nI (by omega) (by decide) (by decide), Option.bind_some, show i = row by omega]
    rfl
  · rw [if_neg (nI_ge (by omega) (by omega)), div_nI (by omega) (by decide) (by decide), Option.bind_some, nI_add]
    exact ih (by omega) _ (by rw [Nat.pow_succ, Nat.div_div_eq_div_mul])
theorem bitten_x {s row c : Nat} (hs : s < 16807) (hr : row < 5) (hc : c < 7) : x0_bitten (nI s) (nI row) (nI c) = some (nI (bn s row c)) := by
  unfold x0_bitten
  refine eq_for 5 (fun i st => st = (nI (fb_sm (fun r => 7 ^ r * bd s row c r) i), nI (s / 7 ^ i), nI (7 ^ i), nI i)) (by decide) ?_ (by rw [Nat.pow_zero, Nat.div_one]; rfl)
  rintro again i _ hi rfl ih
  dsimp only
  have hq : s / 7 ^ i ≤ s := Nat.div_le_self _ _
  by_cases c5 : 5 ≤ i
  · rw [if_pos (nI_le c5 (by omega)), show i = 5 by omega]
    rfl
  · have hd := dg_lt s i
    have eb : fb_sm (fun r => 7 ^ r * bd s row c r) (i + 1) = fb_sm (fun r => 7 ^ r * bd s row c r) i + 7 ^ i * bd s row c i := fb_sm_succ _ _
    rw [if_neg (nI_ge (by omega) (by omega)), rem_nI (by omega) (by decide) (by decide), Option.bind_some, div_nI (by omega) (by decide) (by decide), jn_eq, nI_add, pk_mul]
    have fin : ∀ j, j = nI (bd s row c i) → (nm (nI (fb_sm (fun r => 7 ^ r * bd s row c r) i) + nI (7 ^ i) * j) fun v8 => nm (nI (7 ^ i * 7)) fun v9 => (some (nI (s / 7 ^ i / 7))).bind fun v10 => again (v8, v10, v9, nI (i + 1))) = some (nI (bn s row c)) := by
      rintro _ rfl
      rw [pk_mul, nI_add, nm_eq, nm_eq, Option.bind_some, ← eb]
      exact ih (by omega) _ (by rw [Nat.pow_succ, Nat.div_div_eq_div_mul])
    by_cases c1 : row ≤ i
    · rw [if_pos (nI_le c1 (by omega)), imin_nI (by omega) (by omega)]
      exact fin _ (by unfold bd; rw [if_neg (by omega)]; rfl)
    · rw [if_neg (nI_ge (by omega) (by omega))]
      exact fin _ (by unfold bd; rw [if_pos (by omega)]; rfl)
def MEMO (z : Nat) (I : Mem) : Prop := ∀ t, t < 16807 → t ≠ 0 → mono t → I (z + 2462) t = nI 0 ∨ (I (z + 2462) t = nI 1 ∧ lo t = true) ∨ (I (z + 2462) t = nI 2 ∧ lo t = false)
theorem MEMO.set {z : Nat} {I : Mem} (M : MEMO z I) {s : Nat} {x : Int32} (h : (x = nI 1 ∧ lo s = true) ∨ (x = nI 2 ∧ lo s = false)) : MEMO z (up2 I (z + 2462) s x) := by
  intro t h1 h2 h3
  by_cases e : t = s
  · subst e
    rw [up2_same]
    exact Or.inr h
  · rw [up2_ne (Or.inr e)]
    exact M t h1 h2 h3
section WIN
variable {z : Nat}
theorem win_x : ∀ d (I : Mem) (s : Nat), s < 16807 → mono s → ds s < d → MEMO z I → ok (x0_winning d I z (nI s)) (fun r => FB (dg s) (fun row c => lo (bn s row c)) r.1 ∧ MEMO z r.2 ∧ ∀ a, a ≠ z + 2462 → r.2 a = I a) := by
  intro d
  induction d with
  | zero => intro I s _ _ h; omega
  | succ d ihd =>
    intro I s hs hm hd M
    unfold x0_winning x0_winningB
    refine ok_for 5 (fun i st => st.1 = nI i ∧ MEMO z st.2 ∧ (∀ a, a ≠ z + 2462 → st.2 a = I a) ∧ ∀ row c, row < i → row < 5 → c < dg s row → lo (bn s row c) = false) (by decide) ?_ ⟨rfl, M, fun _ _ => rfl, fun row c h => by omega⟩
    rintro again i ⟨_, J⟩ hi ⟨e1, M, fr, h0⟩ ih
    dsimp only at e1 M fr h0 ⊢
    subst e1
    refine ok_ite (fun c5 => ok_some ?_) (fun c5 => ?_)
    · have := le_iff (by decide) (by omega) c5
      exact ⟨Or.inl ⟨rfl, fun row c hr hc => h0 row c (by omega) hr hc⟩, M, fr⟩
    · have hi5 := nle_iff (by decide) (by omega) c5
      rw [jn_eq]
      have hd7 := dg_lt s i
      refine ok_for (dg s i) (fun k st => st.1 = nI k ∧ MEMO z st.2 ∧ (∀ a, a ≠ z + 2462 → st.2 a = I a) ∧ ∀ c, c < k → lo (bn s i c) = false) (by omega) ?_ ⟨rfl, M, fr, fun c h => by omega⟩
      rintro ag k ⟨_, J'⟩ hk ⟨e1, M', fr', h1⟩ ih2
      dsimp only at e1 M' fr' h1 ⊢
      subst e1
      rw [far_x hs hi5, Option.bind_some, nI_add, nI_add]
      refine ok_ite (fun cc => ?_) (fun cc => ?_)
      · have := le_iff (by omega) (by omega) cc
        refine ih hi5 _ ⟨rfl, M', fr', fun row c h1' h2' h3' => ?_⟩
        by_cases e : row = i
        · subst e; exact h1 c (by omega)
        · exact h0 row c (by omega) h2' h3'
      · have hkl := nle_iff (by omega) (by omega) cc
        rw [bitten_x hs hi5 (by omega), Option.bind_some]
        have hb := bn_lt hs hi5 hkl
        have hbm : mono (bn s i k) := mono_bn hm
        have hbd := ds_bn hi5 hkl
        have key : ok (x0_lostB (fun I x1 => x0_winning d I z x1) J' z (nI (bn s i k))) (fun r => r.1 = lo (bn s i k) ∧ MEMO z r.2 ∧ ∀ a, a ≠ z + 2462 → r.2 a = I a) := by
          unfold x0_lostB
          by_cases hz0 : bn s i k = 0
          · rw [hz0]
            exact ok_t nI_0 (ok_some ⟨lo_0.symm, M', fr'⟩)
          · refine ok_f (nI_ne0 (by omega) (by omega)) ?_
            rw [rd_eq (i := bn s i k) (by omega) (by decide), Option.bind_some, jn_eq]
            have fin : ∀ J2 : Mem, MEMO z J2 → (∀ a, a ≠ z + 2462 → J2 a = I a) → ((J2 (z + 2462) (bn s i k) = nI 1 ∧ lo (bn s i k) = true) ∨ (J2 (z + 2462) (bn s i k) = nI 2 ∧ lo (bn s i k) = false)) → ok ((rd J2 (z + 2462) 16807 (nI (bn s i k))).bind fun v5 => if v5 = nI 1 then some (true, J2) else some (false, J2)) (fun r => r.1 = lo (bn s i k) ∧ MEMO z r.2 ∧ ∀ a, a ≠ z + 2462 → r.2 a = I a) := by
              intro J2 m2 f2 h2
              rw [rd_eq (i := bn s i k) (by omega) (by decide), Option.bind_some]
              rcases h2 with ⟨e1, e2⟩ | ⟨e1, e2⟩
              · exact ok_t e1 (ok_some ⟨e2.symm, m2, f2⟩)
              · exact ok_f (by rw [e1]; decide) (ok_some ⟨e2.symm, m2, f2⟩)
            rcases M' (bn s i k) (by omega) hz0 hbm with e | e
            · refine ok_t (by rw [e]; rfl) ?_
              refine ok_bind' (ihd J' (bn s i k) (by omega) hbm (by omega) M') ?_
              rintro ⟨r, J3⟩ ⟨hF, m3, f3⟩
              dsimp only at hF m3 f3 ⊢
              rw [jn_eq]
              have hl : lo (bn s i k) = true ↔ r = -1 := by
                rw [lo_iff (by omega), hF.no]
                exact ⟨fun h => h.2, fun h => ⟨hz0, h⟩⟩
              have f3' : ∀ x, ∀ a, a ≠ z + 2462 → up2 J3 (z + 2462) (bn s i k) x a = I a := fun x a ha => by rw [up2_k ha, f3 a ha, fr' a ha]
              refine ok_ite (fun cr => ?_) (fun cr => ?_)
              · dsimp only
                rw [wr_eq (i := bn s i k) (by omega) (by decide), Option.bind_some]
                exact fin _ (m3.set (Or.inl ⟨rfl, hl.mpr cr⟩)) (f3' _) (Or.inl ⟨up2_same _ _ _ _, hl.mpr cr⟩)
              · have hl2 : lo (bn s i k) = false := by
                  cases e : lo (bn s i k) with
                  | false => rfl
                  | true => exact absurd (hl.mp e) cr
                dsimp only
                rw [wr_eq (i := bn s i k) (by omega) (by decide), Option.bind_some]
                exact fin _ (m3.set (Or.inr ⟨rfl, hl2⟩)) (f3' _) (Or.inr ⟨up2_same _ _ _ _, hl2⟩)
            · refine ok_f ?_ (fin J' M' fr' e)
              rcases e with ⟨e, _⟩ | ⟨e, _⟩ <;> rw [e] <;> decide
        refine ok_bind' key ?_
        rintro ⟨b, J3⟩ ⟨e, m3, f3⟩
        dsimp only at e m3 f3 ⊢
        subst e
        refine ok_ite (fun cb => ?_) (fun cb => ok_some ?_)
        · rw [bI_0] at cb
          refine ih2 hkl _ ⟨rfl, m3, f3, fun c hc => ?_⟩
          by_cases e : c = k
          · subst e; exact cb
          · exact h1 c (by omega)
        · dsimp only
          rw [pk_mul, nI_add]
          refine ⟨Or.inr ⟨i, k, hi5, hkl, by omega, sd_bI cb, fun row' c' a1 a2 a3 => ?_, rfl⟩, m3, f3⟩
          rcases a3 with a3 | ⟨rfl, a3⟩
          · exact h0 row' c' a3 a1 a2
          · exact h1 c' a3
end WIN
