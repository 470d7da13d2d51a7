/-! ===== rent, ants, melting ===== -/
def TQ (b : Nat) (P0 : Ptr) (I0 μ0 μ : Mem) (m : Nat) (r : Int32 × Ptr × Mem) (t : Int32 × Mem) : Prop := r.1 = t.1 ∧ (∃ q, q ≤ m ∧ t.1 = nI q) ∧ ST b P0 I0 μ0 r.2.1 r.2.2 t.2 ∧ t.2 1 = μ 1
/-- the law tells the same on both sides -/
def TL (kd : Kd) (b : Nat) (P0 : Ptr) (I0 μ0 : Mem) : Prop := ∀ P I μ, ST b P0 I0 μ0 P I μ → ∀ h, h < 12 →
  (ok2 (x1_rent kd P I b (b + 245 + 2 * h)) (m_rentOf μ (nI h)) (TQ b P0 I0 μ0 μ 99)) ∧ (∀ w, w < 4 → ok2 (x1_gnaws kd P I b (b + 245 + 2 * h) (nI w)) (m_gnawsOf μ (nI h) (nI w)) (TQ b P0 I0 μ0 μ 1000)) ∧ (∀ w, w < 4 → ok2 (x1_melts kd P I b (b + 245 + 2 * h) (nI w)) (m_meltsOf μ (nI h) (nI w)) (TQ b P0 I0 μ0 μ 99))
theorem up2_id {μ : Mem} {k i : Nat} {x : Int32} (h : μ k i = x) : up2 μ k i x = μ := by
  funext a j
  by_cases e : a = k ∧ j = i
  · obtain ⟨rfl, rfl⟩ := e
    rw [up2_same, h]
  · rw [up2_ne (by omega)]
theorem notes_m_fr {μ μ' : Mem} {k x y : Int32} (h : m_notes μ k x y = some μ') : (∀ i, i ≠ 2 → μ' 1 i = μ 1 i) ∧ (∀ k, k ≠ 1 → k ≠ 9 → μ' k = μ k) := by
  unfold m_notes at h
  by_cases c : μ 5 0 = 0
  · rw [if_pos c, rd_eq (by decide) (by decide), Option.bind_some] at h
    by_cases c2 : μ 1 2 = nI 150
    · rw [if_pos c2] at h
      cases h
      exact ⟨fun _ _ => rfl, fun _ _ _ => rfl⟩
    · rw [if_neg c2, Option.bind_some] at h
      dsimp only [nm] at h
      rw [rd_eq (by decide) (by decide), Option.bind_some] at h
      obtain ⟨m1, h1, h⟩ := Option.bind_eq_some_iff.mp h
      obtain ⟨m2, h2, h⟩ := Option.bind_eq_some_iff.mp h
      obtain ⟨m3, h3, h⟩ := Option.bind_eq_some_iff.mp h
      obtain ⟨m4, h4, h⟩ := Option.bind_eq_some_iff.mp h
      rw [rd_eq (by decide) (by decide), Option.bind_some, wr_eq (by decide) (by decide), Option.bind_some] at h
      cases h
      have wk : ∀ {μ μ' : Mem} {i v : Int32}, wr μ 9 600 i v = some μ' → ∀ k, k ≠ 9 → μ' k = μ k := by
        intro μ μ' i v hw k hk
        unfold wr at hw
        split at hw
        · cases hw
        · cases hw; exact up2_k hk
      refine ⟨fun i hi => ?_, fun k hk1 hk9 => ?_⟩
      · rw [up2_ne (Or.inr hi), wk h4 1 (by decide), wk h3 1 (by decide), wk h2 1 (by decide), wk h1 1 (by decide)]
      · rw [up2_k hk1, wk h4 k hk9, wk h3 k hk9, wk h2 k hk9, wk h1 k hk9]
  · rw [if_neg c] at h
    cases h
    exact ⟨fun _ _ => rfl, fun _ _ _ => rfl⟩
/-- a note and a write elsewhere -/
theorem notes_x_comm (I : Mem) {b a j : Nat} (v k x y : Int32) (h1 : a ≠ b) (h2 : a < b + 3 ∨ b + 153 ≤ a) : x1_notes (up2 I a j v) b k x y = (x1_notes I b k x y).bind fun I' => some (up2 I' a j v) := by
  unfold x1_notes
  rw [up2_ne (Or.inl (Ne.symm h1)), up2_ne (Or.inl (Ne.symm h1)), up2_ne (Or.inl (Ne.symm h1))]
  by_cases c : I b 23 = 0
  · rw [if_pos c, if_pos c]
    by_cases c2 : I b 21 = nI 150
    · rw [if_pos c2, if_pos c2]; rfl
    · rw [if_neg c2, if_neg c2]
      cases e : ix 150 (I b 21) with
      | none => rfl
      | some i =>
        have hi : i < 150 := by
          unfold ix at e
          split at e
          · cases e
          · rename_i hc
            cases e
            omega
        rw [Option.bind_some, Option.bind_some]
        simp (disch := omega) only [jn, nm, Option.bind_some, nI_add, pk_mul, rd_eq, wr_eq, ix_eq, show nI 0 = nI 0 from rfl]
        have hne : a ≠ b + 3 + i := by omega
        rw [up2_swap I v (I b 19) (Or.inl hne), up2_swap (up2 I (b + 3 + i) 0 (I b 19)) v k (Or.inl hne), up2_swap (up2 (up2 I (b + 3 + i) 0 (I b 19)) (b + 3 + i) 1 k) v x (Or.inl hne), up2_swap (up2 (up2 (up2 I (b + 3 + i) 0 (I b 19)) (b + 3 + i) 1 k) (b + 3 + i) 2 x) v y (Or.inl hne), up2_ne (k := a) (Or.inl (Ne.symm h1)), up2_swap _ v _ (Or.inl h1)]
  · rw [if_neg c, if_neg c]; rfl
theorem nI_le0 {n : Nat} (h : n < 2 ^ 31) : nI n ≤ 0 ↔ n = 0 := by
  rw [← nI_0, nI_leI h (by omega)]
  omega
section PAY
variable {kd : Kd} {b n nt : Nat} {P0 P : Ptr} {I0 μ0 I μ : Mem}
theorem draw2 (S : ST b P0 I0 μ0 P I μ) : ok2 (x1_draw I b (nI 1000)) (m_draw μ (nI 1000)) (fun r t => r.1 = t.1 ∧ ST b P0 I0 μ0 P r.2 t.2 ∧ ∀ i, i ≠ 1 → t.2 1 i = μ 1 i) := by
  unfold x1_draw m_draw
  rw [rd_eq (by decide) (by decide), Option.bind_some, wr_eq (by decide) (by decide), Option.bind_some, rd_eq (by decide) (by decide), Option.bind_some]
  refine ok2_nl ?_
  rw [S.br.state, up2_same, up2_same]
  have h0 : ∀ x : Int32, iremO x (nI 1000) = some (irm x (nI 1000)) := fun x => if_neg (by decide)
  rw [h0, Option.bind_some, Option.bind_some]
  exact ok2_some ⟨rfl, S.set (i := 1) (by omega) (by omega) rfl (rg_no _ (by omega) (by omega) (by omega) (by omega)), fun i hi => by
    show up2 _ 1 1 _ 1 i = _
    exact up2_ne (Or.inr hi)⟩
theorem counts2 (S : ST b P0 I0 μ0 P I μ) (k x y : Int32) {o : Option Mem} (ho : o = if y ≤ 0 then some μ else m_notes μ k x y) : ok2 (x1_counts I b k x y) o (fun I' μ' => ST b P0 I0 μ0 P I' μ') := by
  subst ho
  unfold x1_counts
  refine ok2_ii Iff.rfl (fun _ _ => ok2_some S) (fun _ _ => ?_)
  obtain ⟨I', μ', e1, e2, S'⟩ := notes2 S k x y
  rw [e1, e2, Option.bind_some]
  exact ok2_some S'
/-- who stands has a wall -/
theorem thick_pos (S : ST b P0 I0 μ0 P I μ) {h : Nat} (hh : h < 12) (hs : sd μ h = true) : ∃ v, 1 ≤ v ∧ v ≤ 99 ∧ μ 1 (7 + 4 * h + tk (wl μ h)) = nI v := by
  obtain ⟨v0, a0, e0⟩ := S.wl hh (show 0 < 4 by decide)
  obtain ⟨v1, a1, e1⟩ := S.wl hh (show 1 < 4 by decide)
  obtain ⟨v2, a2, e2⟩ := S.wl hh (show 2 < 4 by decide)
  obtain ⟨v3, a3, e3⟩ := S.wl hh (show 3 < 4 by decide)
  have e0 : wl μ h 0 = nI v0 := e0
  have e1 : wl μ h 1 = nI v1 := e1
  have e2 : wl μ h 2 = nI v2 := e2
  have e3 : wl μ h 3 = nI v3 := e3
  have hs' : ¬ nI (v0 + v1 + v2 + v3) ≤ 0 := by
    unfold sd sm at hs
    rw [e0, e1, e2, e3, nI_add, nI_add, nI_add] at hs
    intro c
    rw [decide_eq_true c] at hs
    cases hs
  rw [nI_le0 (by omega)] at hs'
  have le : ∀ {x y : Nat}, x ≤ 99 → y ≤ 99 → (nI x ≤ nI y ↔ x ≤ y) := fun hx hy => nI_leI (by omega) (by omega)
  show ∃ v, 1 ≤ v ∧ v ≤ 99 ∧ wl μ h (tk (wl μ h)) = nI v
  unfold tk
  dsimp only
  rw [e0, e1, e2, e3]
  by_cases c1 : v1 ≤ v0
  · rw [if_pos ((le a1 a0).mpr c1), e0]
    by_cases c2 : v2 ≤ v0
    · rw [if_pos ((le a2 a0).mpr c2), e0]
      by_cases c3 : v3 ≤ v0
      · rw [if_pos ((le a3 a0).mpr c3), e0]; exact ⟨v0, by omega, a0, rfl⟩
      · rw [if_neg (mt (le a3 a0).mp c3), e3]; exact ⟨v3, by omega, a3, rfl⟩
    · rw [if_neg (mt (le a2 a0).mp c2), e2]
      by_cases c3 : v3 ≤ v2
      · rw [if_pos ((le a3 a2).mpr c3), e2]; exact ⟨v2, by omega, a2, rfl⟩
      · rw [if_neg (mt (le a3 a2).mp c3), e3]; exact ⟨v3, by omega, a3, rfl⟩
  · rw [if_neg (mt (le a1 a0).mp c1), e1]
    by_cases c2 : v2 ≤ v1
    · rw [if_pos ((le a2 a1).mpr c2), e1]
      by_cases c3 : v3 ≤ v1
      · rw [if_pos ((le a3 a1).mpr c3), e1]; exact ⟨v1, by omega, a1, rfl⟩
      · rw [if_neg (mt (le a3 a1).mp c3), e3]; exact ⟨v3, by omega, a3, rfl⟩
    · rw [if_neg (mt (le a2 a1).mp c2), e2]
      by_cases c3 : v3 ≤ v2
      · rw [if_pos ((le a3 a2).mpr c3), e2]; exact ⟨v2, by omega, a2, rfl⟩
      · rw [if_neg (mt (le a3 a2).mp c3), e3]; exact ⟨v3, by omega, a3, rfl⟩
theorem pays2 (A : BA kd b n nt P0 I0 μ0) (T : TL kd b P0 I0 μ0) (S : ST b P0 I0 μ0 P I μ) {h : Nat} (hh : h < 12) : ok2 (x1_pays kd P I b (nI h)) (m_paysRent μ (nI h)) (fun r μ' => ST b P0 I0 μ0 r.1 r.2 μ') := by
  unfold x1_pays m_paysRent
  rw [ix_eq hh (by decide), Option.bind_some]
  refine ok2_b (T P I μ S h hh).1 (fun r t hrt => ?_)
  obtain ⟨r1, P1, I1⟩ := r
  obtain ⟨t1, μ1⟩ := t
  obtain ⟨e, ⟨q, hq, eq⟩, S1, _⟩ := hrt
  dsimp only at e eq S1 ⊢
  subst e
  subst eq
  refine ok2_jl (ok2_jr ?_)
  refine ok2_lp (fun s s' => ∃ c, c ≤ q ∧ s.1 = nI c ∧ s'.1 = nI c ∧ ST b P0 I0 μ0 P1 s.2 s'.2) (fun s => q - s.1.toNatClampNeg) ?_ fuel fuel _ _ ⟨0, Nat.zero_le _, rfl, rfl, S1⟩ (by show q - (nI 0).toNatClampNeg < 20000; omega) (by show q - (nI 0).toNatClampNeg < 20000; omega)
  rintro again again' ⟨s1, I2⟩ ⟨s2, μ2⟩ ⟨c, hc, e1, e2, S2⟩ ih
  dsimp only at e1 e2 S2 ih ⊢
  subst e1
  subst e2
  have fin : ok2 (nm (up2 I2 b 17 ((I2 b 17) + nI c)) fun I8 => nm (up2 I8 (b + 245 + 2 * h) 4 ((I8 (b + 245 + 2 * h) 4) + (nI q - nI c))) fun I9 => (x1_counts I9 b (nI 0) (nI h) (nI c)).bind fun r10 => (x1_counts r10 b (nI 1) (nI h) (nI q - nI c)).bind fun r12 => (x1_leaves kd P1 r12 b (nI h)).bind fun r14 => some (P1, r14))
      ((rd μ2 1 115 (nI 5)).bind fun v5 => (wr μ2 1 115 (nI 5) (v5 + nI c)).bind fun μ6 => jn (fun (j7 : Mem) => (rd j7 1 115 ((nI 67) + nI h)).bind fun v10 => (wr j7 1 115 ((nI 67) + nI h) ((v10 + nI q) - nI c)).bind fun μ11 => jn (fun (j12 : Mem) => (m_areOut j12 (nI h)).bind fun r15 => some r15) (fun k13 => if nI q ≤ nI c then k13 μ11 else (m_notes μ11 (nI 1) (nI h) (nI q - nI c)).bind fun r16 => k13 r16)) (fun k8 => if nI c ≤ 0 then k8 μ6 else (m_notes μ6 (nI 0) (nI h) (nI c)).bind fun r17 => k8 r17))
      (fun r μ' => ST b P0 I0 μ0 r.1 r.2 μ') := by
    refine ok2_nl (ok2_nl ?_)
    rw [rd_eq (by decide) (by decide), Option.bind_some, wr_eq (by decide) (by decide), Option.bind_some, S2.br.eaten]
    have S3 := S2.set (i := 5) (by omega) (by omega) rfl (x := μ2 1 5 + nI c) (rg_no _ (by omega) (by omega) (by omega) (by omega))
    rw [S3.br.icing hh]
    refine ok2_jr ?_
    have tail : ∀ (I3 μ3 : Mem) (v : Int32), ST b P0 I0 μ0 P1 I3 μ3 → v = (μ3 1 (67 + h) + nI q) - nI c → ok2 ((x1_counts (up2 I3 (b + 245 + 2 * h) 4 v) b (nI 1) (nI h) (nI q - nI c)).bind fun r12 => (x1_leaves kd P1 r12 b (nI h)).bind fun r14 => some (P1, r14))
        ((rd μ3 1 115 ((nI 67) + nI h)).bind fun v10 => (wr μ3 1 115 ((nI 67) + nI h) ((v10 + nI q) - nI c)).bind fun μ11 => jn (fun (j12 : Mem) => (m_areOut j12 (nI h)).bind fun r15 => some r15) (fun k13 => if nI q ≤ nI c then k13 μ11 else (m_notes μ11 (nI 1) (nI h) (nI q - nI c)).bind fun r16 => k13 r16)) (fun r μ' => ST b P0 I0 μ0 r.1 r.2 μ') := by
      intro I3 μ3 v S4 hv
      rw [nI_add, rd_eq (by omega) (by decide), Option.bind_some, wr_eq (by omega) (by decide), Option.bind_some, ← hv]
      have S5 := S4.set (by omega) (by omega) (xl_icing hh) (x := v) (rg_no _ (by omega) (by omega) (by omega) (by omega))
      refine ok2_jr ?_
      rw [nI_sub hc]
      by_cases cq : q ≤ c
      · rw [if_pos (nI_le cq (by omega)), show q - c = 0 by omega]
        unfold x1_counts
        rw [if_pos (by decide), Option.bind_some]
        exact ok2_b (leaves2 A S5 hh) (fun I6 μ6 S6 => ok2_some S6)
      · rw [if_neg (nI_ge (by omega) (by omega))]
        unfold x1_counts
        rw [if_neg (nI_nle (by omega) (by omega))]
        obtain ⟨I6, μ6, e1, e2, S6⟩ := notes2 S5 (nI 1) (nI h) (nI (q - c))
        rw [e1, e2, Option.bind_some, Option.bind_some, Option.bind_some]
        exact ok2_b (leaves2 A S6 hh) (fun I6 μ6 S6 => ok2_some S6)
    have hv0 : ∀ x : Int32, x + (nI q - nI c) = (x + nI q) - nI c := fun x => by rw [Int32.sub_eq_add_neg, Int32.sub_eq_add_neg, Int32.add_assoc]
    by_cases c0 : c = 0
    · subst c0
      rw [if_pos (by decide)]
      unfold x1_counts
      rw [if_pos (by decide), Option.bind_some]
      exact tail _ _ _ S3 (hv0 _)
    · rw [if_neg (nI_nle (by omega) (by omega))]
      obtain ⟨I6, μ6, e1, e2, S6⟩ := notes2 S3 (nI 0) (nI h) (nI c)
      rw [show x1_counts = x1_counts from rfl]
      have ex : x1_counts (up2 (up2 I2 b 17 (μ2 1 5 + nI c)) (b + 245 + 2 * h) 4 (up2 μ2 1 5 (μ2 1 5 + nI c) 1 (67 + h) + (nI q - nI c))) b (nI 0) (nI h) (nI c) = some (up2 I6 (b + 245 + 2 * h) 4 (up2 μ2 1 5 (μ2 1 5 + nI c) 1 (67 + h) + (nI q - nI c))) := by
        unfold x1_counts
        rw [if_neg (nI_nle (by omega) (by omega)), notes_x_comm _ _ _ _ _ (by omega) (by omega), e1]
        rfl
      rw [ex, e2, Option.bind_some, Option.bind_some]
      refine tail _ _ _ S6 ?_
      rw [(notes_m_fr e2).1 _ (by omega)]
      exact hv0 _
  refine ok2_ii Iff.rfl (fun _ _ => fin) (fun cq _ => ?_)
  have hlt : c < q := by
    have := mt (nI_leI (a := q) (b := c) (by omega) (by omega)).mpr cq
    omega
  rw [bsd S2.br hh, Option.bind_some, stand_m μ2 hh, Option.bind_some]
  refine ok2_ii Iff.rfl (fun _ _ => fin) (fun cs _ => ?_)
  have hs : sd μ2 h = true := by cases e : sd μ2 h; exact absurd (bI_0.mpr e) cs; rfl
  obtain ⟨v, hv1, hv, ev⟩ := thick_pos S2 hh hs
  have hw := tk_lt (wl μ2 h)
  rw [btk S2.br hh, Option.bind_some, thick_m μ2 hh, Option.bind_some, loses_x S2 hh hw ev hv (by decide), Option.bind_some, wallOf_m _ hh hw, Option.bind_some, wl, ev, hw_less hh hw hv (by decide), Option.bind_some]
  dsimp only
  rw [show min 1 v = 1 by omega, nI_add]
  refine ih _ _ ⟨c + 1, by omega, rfl, rfl, S2.wset hh hw (by omega)⟩ ?_
  rw [nI_clamp (by omega), nI_clamp (by omega)]
  omega
end PAY
