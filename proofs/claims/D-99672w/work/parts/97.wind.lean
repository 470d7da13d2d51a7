/-! ===== the window ===== -/
def wadd (z n k : Nat) (I : Mem) (j : Nat) : Int32 := if k = 3 ∧ j = 3 then nI 0 else I (z + 2441 + (n - k)) j
def wbJ {R : Type} (z : Nat) (n k : Int32) (again15 : Int32 × Mem → Option R) (again24 : Int32 × Mem → Option R) (j23 : Int32 × Mem) : Option R :=
  if (nI 4) ≤ j23.1 then again15 ((k + (nI 1)), j23.2) else if k ≤ 0 then again15 ((k + (nI 1)), j23.2) else if n < k then again15 ((k + (nI 1)), j23.2) else
  (ix 21 n).bind fun i26 => (rd j23.2 (z + 2441 + i26) 4 k).bind fun v28 => jn (fun (j29 : Int32) => (wr j23.2 (z + 2441 + i26) 4 k (v28 + j29)).bind fun I32 => again24 ((j23.1 + (nI 1)), I32)) (fun k30 => jn (fun (_ : Unit) => (ix 21 (n - k)).bind fun i36 => (rd j23.2 (z + 2441 + i36) 4 j23.1).bind fun v38 => k30 v38) (fun k34 => if k = (nI 3) then if j23.1 = (nI 3) then k30 (nI 0) else k34 () else k34 ()))
def wbK {R : Type} (z : Nat) (n : Int32) (again12 : Int32 × Mem → Option R) (again15 : Int32 × Mem → Option R) (j14 : Int32 × Mem) : Option R :=
  if (nI 4) ≤ j14.1 then again12 ((n + (nI 1)), j14.2) else
  (ix 21 n).bind fun i17 => jn (fun (j19 : Int32) => (wr j14.2 (z + 2441 + i17) 4 j14.1 j19).bind fun I22 => lp (wbJ z n j14.1 again15) fuel ((nI 0), I22)) (fun k20 => if n = 0 then if j14.1 = 0 then k20 (nI 1) else k20 (nI 0) else k20 (nI 0))
section WIND
variable {z : Nat} {R : Type}
theorem wbJ_s {again15 again24 : Int32 × Mem → Option R} {n k j : Nat} (hn : n ≤ 20) (hk1 : 1 ≤ k) (hk : k ≤ 3) (hkn : k ≤ n) (hj : j < 4) (J : Mem) : wbJ z (nI n) (nI k) again15 again24 (nI j, J) = again24 (nI (j + 1), up2 J (z + 2441 + n) k (J (z + 2441 + n) k + wadd z n k J j)) := by
  unfold wbJ wadd
  dsimp only [jn]
  rw [if_neg (nI_ge hj (by omega)), if_neg (nI_nle (by omega) (by omega)), if_neg (nI_nlt hkn (by omega)), ix_eq (i := n) (by omega) (by decide), Option.bind_some, rd_eq (i := k) (by omega) (by decide), Option.bind_some, nI_sub hkn, nI_add, ix_eq (i := n - k) (by omega) (by decide), Option.bind_some, rd_eq (i := j) (by omega) (by decide), Option.bind_some, wr_eq (i := k) (by omega) (by decide), wr_eq (i := k) (by omega) (by decide), Option.bind_some, Option.bind_some]
  by_cases c : k = 3 ∧ j = 3
  · rw [if_pos c, if_pos (by rw [c.1]), if_pos (by rw [c.2])]
  · rw [if_neg c]
    by_cases c1 : k = 3
    · rw [if_pos (by rw [c1]), if_neg (by rw [nI_eq (by omega) (by omega)]; exact fun q => c ⟨c1, q⟩)]
    · rw [if_neg (by rw [nI_eq (by omega) (by omega)]; exact c1)]
theorem wbJ_4 {again15 again24 : Int32 × Mem → Option R} {n k : Nat} (J : Mem) : wbJ z (nI n) (nI k) again15 again24 (nI 4, J) = again15 (nI (k + 1), J) := by
  unfold wbJ
  dsimp only
  rw [if_pos (nI_le (by decide) (by decide)), nI_add]
theorem up2_up2 (J : Mem) (a i : Nat) (x y : Int32) : up2 (up2 J a i x) a i y = up2 J a i y := by
  funext b j
  by_cases e : b = a ∧ j = i
  · obtain ⟨rfl, rfl⟩ := e
    rw [up2_same, up2_same]
  · rw [up2_ne (by omega), up2_ne (by omega), up2_ne (by omega)]
theorem wbJ_all {again15 : Int32 × Mem → Option R} {n k : Nat} (hn : n ≤ 20) (hk1 : 1 ≤ k) (hk : k ≤ 3) (hkn : k ≤ n) (J : Mem) : lp (wbJ z (nI n) (nI k) again15) fuel (nI 0, J) = again15 (nI (k + 1), up2 J (z + 2441 + n) k (J (z + 2441 + n) k + wadd z n k J 0 + wadd z n k J 1 + wadd z n k J 2 + wadd z n k J 3)) := by
  have w1 : ∀ (J : Mem) (x : Int32) (j : Nat), wadd z n k (up2 J (z + 2441 + n) k x) j = wadd z n k J j := fun J x j => by
    unfold wadd
    rw [up2_ne (by omega)]
  rw [fuel_10, lp_s, wbJ_s hn hk1 hk hkn (by decide), lp_s, wbJ_s hn hk1 hk hkn (by decide), lp_s, wbJ_s hn hk1 hk hkn (by decide), lp_s, wbJ_s hn hk1 hk hkn (by decide), lp_s, wbJ_4]
  simp only [w1, up2_same, up2_up2]
theorem wbJ_no {again15 : Int32 × Mem → Option R} {n k : Nat} (hn : n ≤ 20) (hk : k ≤ 3) (h : k = 0 ∨ n < k) (J : Mem) : lp (wbJ z (nI n) (nI k) again15) fuel (nI 0, J) = again15 (nI (k + 1), J) := by
  rw [fuel_10, lp_s]
  unfold wbJ
  dsimp only
  rw [if_neg i40]
  rcases h with rfl | h
  · rw [if_pos (by decide), nI_add]
  · rw [if_neg (nI_nle (by omega) (by omega)), if_pos (nI_lt h (by omega)), nI_add]
/-- what row n comes to at k -/
def wval (z n k : Nat) (I : Mem) : Int32 := if n = 0 ∧ k = 0 then nI 1 else if 1 ≤ k ∧ k ≤ n then nI 0 + wadd z n k I 0 + wadd z n k I 1 + wadd z n k I 2 + wadd z n k I 3 else nI 0
theorem wbK_s {again12 again15 : Int32 × Mem → Option R} {n k : Nat} (hn : n ≤ 20) (hk : k ≤ 3) (J : Mem) : wbK z (nI n) again12 again15 (nI k, J) = again15 (nI (k + 1), up2 J (z + 2441 + n) k (wval z n k J)) := by
  have w1 : ∀ (x : Int32) (j : Nat), k ≤ n → 1 ≤ k → wadd z n k (up2 J (z + 2441 + n) k x) j = wadd z n k J j := fun x j h1 h2 => by
    unfold wadd
    rw [up2_ne (by omega)]
  unfold wbK wval
  dsimp only
  rw [if_neg (nI_ge (by omega) (by omega)), ix_eq (i := n) (by omega) (by decide), Option.bind_some, jn_eq]
  by_cases c : n = 0 ∧ k = 0
  · obtain ⟨rfl, rfl⟩ := c
    rw [if_pos nI_0, if_pos nI_0, if_pos ⟨rfl, rfl⟩]
    show ((wr J (z + 2441 + 0) 4 (nI 0) (nI 1)).bind fun I22 => lp (wbJ z (nI 0) (nI 0) again15) fuel (nI 0, I22)) = _
    rw [wr_eq (i := 0) (by decide) (by decide), Option.bind_some]
    exact wbJ_no (by decide) (by decide) (Or.inl rfl) _
  · rw [if_neg c]
    have e : ∀ X : Option R, (if nI n = 0 then if nI k = 0 then X else (wr J (z + 2441 + n) 4 (nI k) (nI 0)).bind fun I22 => lp (wbJ z (nI n) (nI k) again15) fuel (nI 0, I22) else (wr J (z + 2441 + n) 4 (nI k) (nI 0)).bind fun I22 => lp (wbJ z (nI n) (nI k) again15) fuel (nI 0, I22)) = lp (wbJ z (nI n) (nI k) again15) fuel (nI 0, up2 J (z + 2441 + n) k (nI 0)) := by
      intro X
      rw [wr_eq (i := k) (by omega) (by decide), Option.bind_some]
      by_cases c1 : n = 0
      · rw [if_pos (by rw [c1]; rfl), if_neg (nI_ne0 (by omega) (by omega))]
      · rw [if_neg (nI_ne0 (by omega) (by omega))]
    rw [e]
    by_cases c2 : 1 ≤ k ∧ k ≤ n
    · rw [if_pos c2, wbJ_all hn c2.1 hk c2.2, up2_same, up2_up2, w1 _ _ c2.2 c2.1, w1 _ _ c2.2 c2.1, w1 _ _ c2.2 c2.1, w1 _ _ c2.2 c2.1]
    · rw [if_neg c2]
      exact wbJ_no hn hk (by omega) _
theorem wbK_all {again12 : Int32 × Mem → Option R} {n : Nat} (hn : n ≤ 20) (J : Mem) : lp (wbK z (nI n) again12) fuel (nI 0, J) = again12 (nI (n + 1), up2 (up2 (up2 (up2 J (z + 2441 + n) 0 (wval z n 0 J)) (z + 2441 + n) 1 (wval z n 1 J)) (z + 2441 + n) 2 (wval z n 2 J)) (z + 2441 + n) 3 (wval z n 3 J)) := by
  have w1 : ∀ (J : Mem) (i k : Nat) (x : Int32), wval z n k (up2 J (z + 2441 + n) i x) = wval z n k J := fun J i k x => by
    unfold wval
    by_cases c2 : 1 ≤ k ∧ k ≤ n
    · unfold wadd
      rw [if_pos c2, if_pos c2, up2_ne (by omega), up2_ne (by omega), up2_ne (by omega), up2_ne (by omega)]
    · rw [if_neg c2, if_neg c2]
  rw [fuel_10, lp_s, wbK_s hn (by decide), lp_s, wbK_s hn (by decide), lp_s, wbK_s hn (by decide), lp_s, wbK_s hn (by decide), lp_s]
  unfold wbK
  dsimp only
  rw [if_pos i44, nI_add]
  simp only [w1]
end WIND
