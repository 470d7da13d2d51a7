/-! ===== the council ===== -/
def ws (w : Nat → Nat) (m k : Nat) : Nat := fb_sm (fun i => if m.testBit i then w i else 0) k
def wt (w : Nat → Nat) (m k : Nat) : Nat := fb_sm (fun i => if m.testBit i then 0 else w i) k
theorem ws_le {w : Nat → Nat} {k : Nat} (h : ∀ i, i < k → w i ≤ 9) (m : Nat) : ws w m k ≤ k * 9 := fb_sm_bound (fun i hi => by
  by_cases c : m.testBit i = true
  · rw [if_pos c]; exact h i hi
  · rw [if_neg c]; omega)
theorem wt_le {w : Nat → Nat} {k : Nat} (h : ∀ i, i < k → w i ≤ 9) (m : Nat) : wt w m k ≤ k * 9 := fb_sm_bound (fun i hi => by
  by_cases c : m.testBit i = true
  · rw [if_pos c]; omega
  · rw [if_neg c]; exact h i hi)
theorem ws_wt (w : Nat → Nat) (m k : Nat) : ws w m k + wt w m k = fb_sm w k := by
  unfold ws wt
  rw [← fb_sm_add]
  exact fb_sm_cong (fun i _ => by by_cases c : m.testBit i = true <;> simp [c])
theorem ws_full (w : Nat → Nat) (k : Nat) : ws w (2 ^ k - 1) k = fb_sm w k := fb_sm_cong (fun i hi => by rw [Nat.testBit_two_pow_sub_one, decide_eq_true hi, if_pos rfl])
theorem bit1 {m j : Nat} (h : m < 4096) (hj : j < 12) : (nI m >>> (nI j &&& 31)) &&& nI 1 = nI (if m.testBit j then 1 else 0) := by
  have hb := hasb h hj
  by_cases c : (nI m >>> (nI j &&& 31)) &&& nI 1 = nI 1
  · rw [decide_eq_true c] at hb
    rw [c, ← hb, if_pos rfl]
  · rw [decide_eq_false c] at hb
    obtain ⟨q, hq, e⟩ := pk_andE (nI m >>> (nI j &&& 31)) (m := nI 1) 1 (by decide)
    rw [e] at c ⊢
    rw [← hb, if_neg (by decide)]
    have : q = 0 ∨ q = 1 := by omega
    rcases this with rfl | rfl
    · rfl
    · exact absurd rfl c
theorem shl01 {β : Bool} {i : Nat} (hi : i < 31) : nI (if β then 1 else 0) <<< (nI i &&& 31) = nI (if β then 2 ^ i else 0) := by
  cases β
  · have : ∀ i, i < 31 → nI 0 <<< (nI i &&& 31) = nI 0 := by decide +kernel
    exact this i hi
  · exact shl1 i hi
section COUN
variable {I μ : Mem} {z c : Nat} {w : Nat → Nat}
theorem weights_x (hc : c ≤ 8) (e1 : I (z + 233) 1 = nI c) (hw : ∀ i, i < c → I (z + 235 + i) 1 = nI (w i) ∧ w i ≤ 9) {m : Nat} (hm : m < 4096) : x0_weights I z (nI m) = some (nI (ws w m c)) := by
  refine ok_val ?_
  unfold x0_weights
  refine ok_lp (fun s => ∃ i, i ≤ c ∧ s = (nI (ws w m i), nI i)) (fun s => c - s.2.toNatClampNeg) ?_ fuel _ ⟨0, Nat.zero_le _, rfl⟩ (clamp_0 (c := c) (by omega))
  rintro again _ ⟨i, hi, rfl⟩ ih
  dsimp only at ih ⊢
  rw [e1]
  refine ok_ite (fun q => ok_some ?_) (fun q => ?_)
  · have := (nI_leI (a := c) (b := i) (by omega) (by omega)).mp q
    rw [show i = c by omega]
  · have hlt := lt_of_nle (by omega) hi q
    have hs : ws w m (i + 1) = ws w m i + (if m.testBit i then w i else 0) := fb_sm_succ _ _
    have fy : x2_second I (z + 233) 8 (nI i) = some (nI (w i)) := by
      unfold x2_second
      rw [ix_eq (by omega) (by decide), Option.bind_some, rd_eq (i := 1) (by decide) (by decide), Option.bind_some, show z + 233 + 2 + i = z + 235 + i by omega, (hw i hlt).1]
    rw [bit1 hm (show i < 12 by omega), nI_add]
    refine ok_jn (fun j => j = nI (if m.testBit i then w i else 0)) ?_ (fun k hk => ?_)
    · rintro _ rfl
      rw [nI_add, ← hs]
      exact ih _ ⟨i + 1, hlt, rfl⟩ (clamp_s (by omega) hlt)
    · cases hb : m.testBit i with
      | true =>
        rw [if_pos rfl, if_pos rfl, fy, Option.bind_some]
        exact hk _ (by rw [hb, if_pos rfl])
      | false =>
        rw [if_neg (by decide)]
        exact hk _ (by rw [hb, if_neg (by decide)])
theorem more_m (hc : c ≤ 8) (e1 : μ 66 0 = nI c) (hw : ∀ i, i < c → μ 68 i = nI (w i) ∧ w i ≤ 9) {m : Nat} (hm : m < 4096) : m_moreOf μ (nI m) = some (nI (ws w m c) - nI (wt w m c)) := by
  refine ok_val ?_
  unfold m_moreOf
  refine ok_lp (fun s => ∃ i, i ≤ c ∧ s = (nI (ws w m i) - nI (wt w m i), nI i)) (fun s => c - s.2.toNatClampNeg) ?_ fuel _ ⟨0, Nat.zero_le _, by rw [show ws w m 0 = 0 from rfl, show wt w m 0 = 0 from rfl, Int32.sub_self, nI_0]⟩ (clamp_0 (c := c) (by omega))
  rintro again _ ⟨i, hi, rfl⟩ ih
  dsimp only at ih ⊢
  rw [e1]
  refine ok_ite (fun q => ok_some ?_) (fun q => ?_)
  · have := (nI_leI (a := c) (b := i) (by omega) (by omega)).mp q
    rw [show i = c by omega]
  · have hlt := lt_of_nle (by omega) hi q
    have hs : ws w m (i + 1) = ws w m i + (if m.testBit i then w i else 0) := fb_sm_succ _ _
    have ht : wt w m (i + 1) = wt w m i + (if m.testBit i then 0 else w i) := fb_sm_succ _ _
    rw [has_m μ hm (show i < 12 by omega), Option.bind_some, nI_add]
    refine ok_jn (fun j => nI (ws w m i) - nI (wt w m i) + j = nI (ws w m (i + 1)) - nI (wt w m (i + 1))) ?_ (fun k hk => ?_)
    · intro j hj
      rw [hj]
      exact ih _ ⟨i + 1, hlt, rfl⟩ (clamp_s (by omega) hlt)
    · rw [rd_eq (i := i) (by omega) (by decide), Option.bind_some, Option.bind_some, (hw i hlt).1]
      cases hb : m.testBit i with
      | true =>
        rw [if_neg bT]
        refine hk _ ?_
        rw [hs, ht, hb, if_pos rfl, if_pos rfl, Nat.add_zero, ← nI_add, Int32.sub_eq_add_neg, Int32.sub_eq_add_neg, Int32.add_assoc, Int32.add_assoc, Int32.add_comm (nI (w i))]
      | false =>
        rw [if_pos bF]
        refine hk _ ?_
        rw [hs, ht, hb, if_neg (by decide), if_neg (by decide), Nat.add_zero, ← nI_add, Int32.sub_eq_add_neg, Int32.sub_eq_add_neg, Int32.neg_add, Int32.add_assoc, Int32.sub_eq_add_neg]
theorem wins (hc : c ≤ 8) (hw : ∀ i, i < c → w i ≤ 9) (m : Nat) : (nI 2 * nI (ws w m c) ≤ nI (ws w (2 ^ c - 1) c)) ↔ (nI (ws w m c) - nI (wt w m c) ≤ 0) := by
  have a1 := ws_le hw m
  have a2 := wt_le hw m
  have a3 := ws_wt w m c
  rw [ws_full, ← a3, pk_mul, nI_leI (by omega) (by omega), fa_le, fb_subI (by rw [nI_toInt (by omega), nI_toInt (by omega)]; omega) (by rw [nI_toInt (by omega), nI_toInt (by omega)]; omega), nI_toInt (by omega), nI_toInt (by omega)]
  show _ ↔ (_ : Int) ≤ 0
  omega
end COUN
