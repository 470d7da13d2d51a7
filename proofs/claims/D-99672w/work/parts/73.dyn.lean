/-! ===== walls, who stands ===== -/
theorem ok_val {α : Type} {o : Option α} {v : α} (h : ok o (fun r => r = v)) : o = some v := by
  obtain ⟨r, h1, h2⟩ := h
  rw [h1, h2]
theorem lp_s {S R : Type} (body : (S → Option R) → S → Option R) (n : Nat) (s : S) : lp body (n + 1) s = body (lp body n) s := rfl
theorem fuel_10 : fuel = 19990 + 10 := rfl
theorem ite_app {α β : Type} (c : Prop) [Decidable c] (f : α → β) (a b : α) : (if c then f a else f b) = f (if c then a else b) := by split <;> rfl
def wl (μ : Mem) (h w : Nat) : Int32 := μ 1 (7 + 4 * h + w)
def sm (μ : Mem) (h : Nat) : Int32 := wl μ h 0 + wl μ h 1 + wl μ h 2 + wl μ h 3
def sd (μ : Mem) (h : Nat) : Bool := !decide (sm μ h ≤ 0)
theorem sd_if (μ : Mem) (h : Nat) : (if sm μ h ≤ 0 then some false else some true) = some (sd μ h) := by
  unfold sd
  by_cases c : sm μ h ≤ 0
  · rw [if_pos c, decide_eq_true c]; rfl
  · rw [if_neg c, decide_eq_false c]; rfl
/-- the first of the thickest -/
def tk (f : Nat → Int32) : Nat :=
  let b1 := if f 1 ≤ f 0 then 0 else 1
  let b2 := if f 2 ≤ f b1 then b1 else 2
  if f 3 ≤ f b2 then b2 else 3
theorem tk_lt (f : Nat → Int32) : tk f < 4 := by
  unfold tk
  dsimp only
  repeat' split
  all_goals omega
theorem tk_cong {f g : Nat → Int32} (h : ∀ w, w < 4 → f w = g w) : tk f = tk g := by
  have e0 := h 0 (by decide)
  have e1 := h 1 (by decide)
  have e2 := h 2 (by decide)
  have e3 := h 3 (by decide)
  unfold tk
  by_cases c1 : g 1 ≤ g 0
  · by_cases c2 : g 2 ≤ g 0 <;> simp [e0, e1, e2, e3, c1, c2]
  · by_cases c2 : g 2 ≤ g 1 <;> simp [e0, e1, e2, e3, c1, c2]
theorem i40 : ¬ nI 4 ≤ nI 0 := by decide
theorem i41 : ¬ nI 4 ≤ nI 1 := by decide
theorem i42 : ¬ nI 4 ≤ nI 2 := by decide
theorem i43 : ¬ nI 4 ≤ nI 3 := by decide
theorem i44 : nI 4 ≤ nI 4 := by decide
theorem sum_x (I : Mem) (a : Nat) : x3_sum I a = some (I (a + 1) 0 + I (a + 1) 1 + I (a + 1) 2 + I (a + 1) 3) := by
  unfold x3_sum
  rw [fuel_10, lp_s]
  dsimp only
  rw [if_neg i40, rd_eq (by decide) (by decide), Option.bind_some, nI_add, lp_s]
  dsimp only
  rw [if_neg i41, rd_eq (by decide) (by decide), Option.bind_some, nI_add, lp_s]
  dsimp only
  rw [if_neg i42, rd_eq (by decide) (by decide), Option.bind_some, nI_add, lp_s]
  dsimp only
  rw [if_neg i43, rd_eq (by decide) (by decide), Option.bind_some, nI_add, lp_s]
  dsimp only
  rw [if_pos i44, nI_0, Int32.zero_add]
theorem thick_x (I : Mem) (a : Nat) : x3_thickest I a = some (nI (tk (I (a + 1)))) := by
  unfold x3_thickest
  have b1 : (if I (a + 1) 1 ≤ I (a + 1) 0 then 0 else 1) < 4 := by split <;> decide
  have b2 : (if I (a + 1) 2 ≤ I (a + 1) (if I (a + 1) 1 ≤ I (a + 1) 0 then 0 else 1) then (if I (a + 1) 1 ≤ I (a + 1) 0 then 0 else 1) else 2) < 4 := by
    repeat' split
    all_goals omega
  rw [fuel_10, lp_s]
  dsimp only [jn]
  rw [if_neg i41, rd_eq (by decide) (by decide), Option.bind_some, rd_eq (by decide) (by decide), Option.bind_some, nI_add, ite_app _ (fun x => lp _ _ (x, nI (1 + 1))), ite_app _ nI, lp_s]
  dsimp only [jn]
  rw [if_neg i42, rd_eq (by decide) (by decide), Option.bind_some, rd_eq b1 (by decide), Option.bind_some, nI_add, ite_app _ (fun x => lp _ _ (x, nI (1 + 1 + 1))), ite_app _ nI, lp_s]
  dsimp only [jn]
  rw [if_neg i43, rd_eq (by decide) (by decide), Option.bind_some, rd_eq b2 (by decide), Option.bind_some, nI_add, ite_app _ (fun x => lp _ _ (x, nI (1 + 1 + 1 + 1))), ite_app _ nI, lp_s]
  dsimp only [jn]
  rw [if_pos i44]
  rfl
theorem ixW {h w : Nat} : nI 7 + nI 4 * nI h + nI w = nI (7 + 4 * h + w) := by rw [pk_mul, nI_add, nI_add]
theorem wallOf_m (μ : Mem) {h w : Nat} (hh : h < 12) (hw : w < 4) : m_wallOf μ (nI h) (nI w) = some (wl μ h w) := by
  unfold m_wallOf
  rw [ixW, rd_eq (by omega) (by decide)]
  rfl
theorem sum_m (μ : Mem) {h : Nat} (hh : h < 12) : m_sumOf μ (nI h) = some (sm μ h) := by
  unfold m_sumOf
  rw [wallOf_m μ hh (by decide), Option.bind_some, wallOf_m μ hh (by decide), Option.bind_some, wallOf_m μ hh (by decide), Option.bind_some, wallOf_m μ hh (by decide), Option.bind_some]
  rfl
theorem stand_m (μ : Mem) {h : Nat} (hh : h < 12) : m_doesStand μ (nI h) = some (sd μ h) := by
  unfold m_doesStand
  rw [sum_m μ hh, Option.bind_some]
  exact sd_if μ h
theorem thick_m (μ : Mem) {h : Nat} (hh : h < 12) : m_thickest μ (nI h) = some (nI (tk (wl μ h))) := by
  unfold m_thickest
  have b1 : (if wl μ h 1 ≤ wl μ h 0 then 0 else 1) < 4 := by split <;> decide
  have b2 : (if wl μ h 2 ≤ wl μ h (if wl μ h 1 ≤ wl μ h 0 then 0 else 1) then (if wl μ h 1 ≤ wl μ h 0 then 0 else 1) else 2) < 4 := by
    repeat' split
    all_goals omega
  rw [fuel_10, lp_s]
  dsimp only
  rw [if_neg i41, wallOf_m μ hh (by decide), Option.bind_some, wallOf_m μ hh (by decide), Option.bind_some, nI_add, ite_app _ (fun x => lp _ _ (x, nI (1 + 1))), ite_app _ nI, lp_s]
  dsimp only
  rw [if_neg i42, wallOf_m μ hh (by decide), Option.bind_some, wallOf_m μ hh b1, Option.bind_some, nI_add, ite_app _ (fun x => lp _ _ (x, nI (1 + 1 + 1))), ite_app _ nI, lp_s]
  dsimp only
  rw [if_neg i43, wallOf_m μ hh (by decide), Option.bind_some, wallOf_m μ hh b2, Option.bind_some, nI_add, ite_app _ (fun x => lp _ _ (x, nI (1 + 1 + 1 + 1))), ite_app _ nI, lp_s]
  dsimp only
  rw [if_pos i44]
  rfl
/-! the set of those that stand -/
def ss (μ : Mem) : Nat → Nat
  | 0 => 0
  | h + 1 => if sd μ h then ss μ h ||| 2 ^ h else ss μ h
theorem ss_bit (μ : Mem) (n i : Nat) : (ss μ n).testBit i = (decide (i < n) && sd μ i) := by
  induction n with
  | zero => simp [ss]
  | succ n ih =>
    unfold ss
    by_cases c : sd μ n = true
    · rw [if_pos c, fb_bit_set, ih]
      by_cases e : i = n
      · subst e; simp [c]
      · have : (i < n + 1) ↔ i < n := by omega
        simp [e, this]
    · rw [if_neg c, ih]
      by_cases e : i = n
      · subst e; simp [c]
      · have : (i < n + 1) ↔ i < n := by omega
        simp [this]
theorem ss_lt (μ : Mem) (n : Nat) : ss μ n < 2 ^ n := by
  induction n with
  | zero => exact Nat.one_pos
  | succ n ih =>
    unfold ss
    split
    · exact Nat.or_lt_two_pow (by omega) (Nat.pow_lt_pow_right (by decide) (by omega))
    · omega
theorem shl1 : ∀ h, h < 31 → (nI 1) <<< (nI h &&& 31) = nI (2 ^ h) := by decide +kernel
theorem or0 (x : Int32) : x ||| nI 0 = x := by rw [nI_0]; simp
section DYN
variable {I μ : Mem} {b : Nat}
theorem bwl (B : BR I b μ) {h w : Nat} (hh : h < 12) (hw : w < 4) : I (b + 245 + 2 * h + 1) w = wl μ h w := by
  rw [show b + 245 + 2 * h + 1 = b + 246 + 2 * h by omega]
  exact B.wall hh hw
theorem bsm (B : BR I b μ) {h : Nat} (hh : h < 12) : x3_sum I (b + 245 + 2 * h) = some (sm μ h) := by
  rw [sum_x, bwl B hh (by decide), bwl B hh (by decide), bwl B hh (by decide), bwl B hh (by decide)]
  rfl
theorem bsd (B : BR I b μ) {h : Nat} (hh : h < 12) : x3_stands I (b + 245 + 2 * h) = some (sd μ h) := by
  unfold x3_stands
  rw [bsm B hh, Option.bind_some]
  exact sd_if μ h
theorem btk (B : BR I b μ) {h : Nat} (hh : h < 12) : x3_thickest I (b + 245 + 2 * h) = some (nI (tk (wl μ h))) := by
  rw [thick_x, tk_cong (fun w hw => bwl B hh hw)]
theorem bss (B : BR I b μ) {n : Nat} (hn : n ≤ 12) (hm : μ 6 0 = nI n) : x1_standing I b = some (nI (ss μ n)) := by
  refine ok_val ?_
  unfold x1_standing
  refine ok_lp (fun s => ∃ h, h ≤ n ∧ s = (nI (ss μ h), nI h)) (fun s => n - s.2.toNatClampNeg) ?_ fuel _ ⟨0, Nat.zero_le _, rfl⟩ (by show n - (nI 0).toNatClampNeg < 20000; omega)
  rintro again s ⟨h, hh, rfl⟩ ih
  dsimp only
  rw [B.houses, hm]
  refine ok_ite (fun c => ok_some ?_) (fun c => ?_)
  · have : n ≤ h := (nI_leI (by omega) (by omega)).mp c
    rw [show h = n by omega]
  · have hlt : h < n := by
      have := mt (nI_leI (a := n) (b := h) (by omega) (by omega)).mpr c
      omega
    have me : ∀ x : Nat, n - (nI (h + 1)).toNatClampNeg < n - (nI h).toNatClampNeg := fun _ => by
      rw [nI_clamp (by omega), nI_clamp (by omega)]; omega
    rw [ix_eq (by omega) (by decide), Option.bind_some, bsd B (by omega), Option.bind_some, nI_add, shl1 h (by omega)]
    dsimp only [jn]
    by_cases c2 : sd μ h = true
    · rw [if_neg (by rw [c2]; decide)]
      refine ih _ ⟨h + 1, hlt, ?_⟩ (me 0)
      rw [fa_or, ss, if_pos c2]
    · have c3 : sd μ h = false := by cases e : sd μ h; rfl; exact absurd e c2
      rw [if_pos (by rw [c3]; decide), or0]
      refine ih _ ⟨h + 1, hlt, ?_⟩ (me 0)
      rw [ss, if_neg c2]
end DYN
theorem standing_m {μ : Mem} {n : Nat} (hn : n ≤ 12) (hm : μ 6 0 = nI n) : m_standingSet μ = some (nI (ss μ n)) := by
  refine ok_val ?_
  unfold m_standingSet
  refine ok_lp (fun s => ∃ h, h ≤ n ∧ s = (nI (ss μ h), nI h)) (fun s => n - s.2.toNatClampNeg) ?_ fuel _ ⟨0, Nat.zero_le _, rfl⟩ (by show n - (nI 0).toNatClampNeg < 20000; omega)
  rintro again s ⟨h, hh, rfl⟩ ih
  dsimp only
  rw [hm]
  refine ok_ite (fun c => ok_some ?_) (fun c => ?_)
  · have : n ≤ h := (nI_leI (by omega) (by omega)).mp c
    rw [show h = n by omega]
  · have hlt : h < n := by
      have := mt (nI_leI (a := n) (b := h) (by omega) (by omega)).mpr c
      omega
    have me : ∀ x : Nat, n - (nI (h + 1)).toNatClampNeg < n - (nI h).toNatClampNeg := fun _ => by
      rw [nI_clamp (by omega), nI_clamp (by omega)]; omega
    rw [stand_m μ (by omega), Option.bind_some, nI_add, shl1 h (by omega)]
    by_cases c2 : sd μ h = true
    · rw [if_neg (by rw [c2]; decide)]
      refine ok_nm (ih _ ⟨h + 1, hlt, ?_⟩ (me 0))
      rw [fa_or, ss, if_pos c2]
    · have c3 : sd μ h = false := by cases e : sd μ h; rfl; exact absurd e c2
      rw [if_pos (by rw [c3]; decide)]
      refine ih _ ⟨h + 1, hlt, ?_⟩ (me 0)
      rw [ss, if_neg c2]
