/-! ===== a quarter goes by ===== -/
def ESky (kd : Kd) (b : Nat) (I0 μ0 : Mem) (i e : Nat) : Prop := ¬ chg b e ∧ I0 e 0 = μ0 34 (3 * i) ∧ ((kd e = (12, 0, 0) ∧ μ0 34 (3 * i + 1) = nI 0 ∧ I0 e 1 = μ0 34 (3 * i + 2)) ∨ (kd e = (13, 0, 0) ∧ ((μ0 34 (3 * i + 1) = nI 1 ∧ I0 e 1 = nI 1) ∨ (μ0 34 (3 * i + 1) = nI 2 ∧ I0 e 1 = nI 0))))
def EOff (kd : Kd) (b : Nat) (I0 μ0 : Mem) (i e : Nat) : Prop := ¬ chg b e ∧ I0 e 0 = μ0 36 (5 * i) ∧ ∃ h, h < 12 ∧ I0 e 1 = nI h ∧ μ0 36 (5 * i + 2) = nI h ∧ ((kd e = (14, 0, 0) ∧ μ0 36 (5 * i + 1) = nI 0 ∧ I0 e 2 = μ0 36 (5 * i + 4)) ∨ (kd e = (15, 0, 0) ∧ μ0 36 (5 * i + 1) = nI 1 ∧ ∃ w q, w < 4 ∧ q ≤ 99 ∧ I0 e 2 = nI w ∧ μ0 36 (5 * i + 3) = nI w ∧ I0 e 3 = nI q ∧ μ0 36 (5 * i + 4) = nI q) ∨ (kd e = (16, 0, 0) ∧ μ0 36 (5 * i + 1) = nI 2) ∨ (kd e = (17, 0, 0) ∧ μ0 36 (5 * i + 1) = nI 3))
def BL (kd : Kd) (b sk cs of co : Nat) (P0 : Ptr) (I0 μ0 : Mem) : Prop := (P0 b 11 = some sk) ∧ (¬ chg b sk) ∧ (LST kd P0 I0 sk cs (ESky kd b I0 μ0)) ∧ (μ0 33 0 = nI cs) ∧ (P0 b 12 = some of) ∧ (¬ chg b of) ∧ (LST kd P0 I0 of co (EOff kd b I0 μ0)) ∧ (μ0 35 0 = nI co)
theorem BL.sp {kd : Kd} {b sk cs of co : Nat} {P0 : Ptr} {I0 μ0 : Mem} (S : BL kd b sk cs of co P0 I0 μ0) : P0 b 11 = some sk := S.1
theorem BL.sn {kd : Kd} {b sk cs of co : Nat} {P0 : Ptr} {I0 μ0 : Mem} (S : BL kd b sk cs of co P0 I0 μ0) : ¬ chg b sk := S.2.1
theorem BL.sl {kd : Kd} {b sk cs of co : Nat} {P0 : Ptr} {I0 μ0 : Mem} (S : BL kd b sk cs of co P0 I0 μ0) : LST kd P0 I0 sk cs (ESky kd b I0 μ0) := S.2.2.1
theorem BL.sm {kd : Kd} {b sk cs of co : Nat} {P0 : Ptr} {I0 μ0 : Mem} (S : BL kd b sk cs of co P0 I0 μ0) : μ0 33 0 = nI cs := S.2.2.2.1
theorem BL.op {kd : Kd} {b sk cs of co : Nat} {P0 : Ptr} {I0 μ0 : Mem} (S : BL kd b sk cs of co P0 I0 μ0) : P0 b 12 = some of := S.2.2.2.2.1
theorem BL.on {kd : Kd} {b sk cs of co : Nat} {P0 : Ptr} {I0 μ0 : Mem} (S : BL kd b sk cs of co P0 I0 μ0) : ¬ chg b of := S.2.2.2.2.2.1
theorem BL.ol {kd : Kd} {b sk cs of co : Nat} {P0 : Ptr} {I0 μ0 : Mem} (S : BL kd b sk cs of co P0 I0 μ0) : LST kd P0 I0 of co (EOff kd b I0 μ0) := S.2.2.2.2.2.2.1
theorem BL.om {kd : Kd} {b sk cs of co : Nat} {P0 : Ptr} {I0 μ0 : Mem} (S : BL kd b sk cs of co P0 I0 μ0) : μ0 35 0 = nI co := S.2.2.2.2.2.2.2
theorem imax_greater (μ : Mem) (a c : Int32) : m_greater μ a c = some (imax a c) := by
  unfold m_greater imax
  by_cases h : a < c
  · rw [if_pos (fa_of_lt h).1, if_pos h]
  · rw [if_neg h]
    by_cases h2 : a ≤ c
    · rw [if_pos h2]
      rcases fa_three a c with q | q | q
      · exact absurd q h
      · rw [q]
      · exact absurd h2 (fa_of_lt q).2.1
    · rw [if_neg h2]
theorem ckE_of {kd : Kd} {e : Nat} (h : kd e = (12, 0, 0) ∨ kd e = (13, 0, 0) ∨ kd e = (14, 0, 0) ∨ kd e = (15, 0, 0) ∨ kd e = (16, 0, 0) ∨ kd e = (17, 0, 0)) : ckE kd e = some e := if_pos h
theorem and_small {a : Nat} (ha : a < 4096) (y : Int32) : ∃ k, k < 4096 ∧ nI a &&& y = nI k := by
  refine ⟨a &&& y.toBitVec.toNat, Nat.lt_of_le_of_lt Nat.and_le_left ha, ?_⟩
  rw [← fa_and]
  congr 1
  exact Int32.toBitVec_inj.mp (BitVec.eq_of_toNat_eq (by simp [nI]))
section PASS
variable {kd : Kd} {b n nt sk cs of co : Nat} {P0 P : Ptr} {I0 μ0 I μ : Mem}
theorem LST.to {E : Nat → Nat → Prop} {ls c : Nat} (L : LST kd P0 I0 ls c E) (hn : ¬ chg b ls) (S : ST b P0 I0 μ0 P I μ) : LST kd P I ls c E := by
  obtain ⟨h1, h2, h3, h4⟩ := L
  refine ⟨h1, by rw [S.fx ls hn]; exact h2, h3, fun i hi => ?_⟩
  obtain ⟨ar, e, a1, a2, a3, a4, a5, a6⟩ := h4 i hi
  exact ⟨ar, e, by rw [S.fp _ _ (by omega)]; exact a1, a2, a3, a4, by rw [S.fp _ _ (by omega)]; exact a5, a6⟩
theorem off_e (A : BA kd b n nt P0 I0 μ0) (S : ST b P0 I0 μ0 P I μ) {i e : Nat} (hi : i < 16) (E : EOff kd b I0 μ0 i e) : ok2 (en_comes kd P I e b) (m_does μ (nI (5 * i))) (fun I' μ' => ST b P0 I0 μ0 P I' μ') := by
  obtain ⟨hc, _, h, hh, x1, m2, hk⟩ := E
  have ex : I e = I0 e := S.fx e hc
  have em : μ 36 = μ0 36 := S.fm 36 (by decide) (by decide) (by decide) (by decide)
  unfold en_comes m_does
  rw [nI_add, nI_add, nI_add, rd_eq (i := 5 * i + 1) (by omega) (by decide), Option.bind_some, rd_eq (i := 5 * i + 2) (by omega) (by decide), Option.bind_some, rd_eq (i := 5 * i + 4) (by omega) (by decide), Option.bind_some, em, m2]
  rcases hk with ⟨hk, m1, x2⟩ | ⟨hk, m1, w, q, hw, hq, x2, m3, x3, m4⟩ | ⟨hk, m1⟩ | ⟨hk, m1⟩
  · rw [hk, if_neg (by decide), if_neg (by decide), if_pos rfl, m1]
    refine ok2_jr (ok2_tr nI_0 ?_)
    unfold x16_comes x13_one
    rw [ex, x1, x2, Option.bind_some, ix_eq hh (by decide), Option.bind_some, Option.bind_some, ix_eq hh (by decide), Option.bind_some, nI_add, rd_eq (i := 67 + h) (by omega) (by decide), Option.bind_some, imax_greater, Option.bind_some, wr_eq (i := 67 + h) (by omega) (by decide), Option.bind_some, S.br.icing hh]
    refine ok2_nl (ok2_jr (ok2_fr (by decide) (ok2_jr (ok2_fr (by decide) (ok2_fr (by decide) ?_)))))
    exact ok2_some (S.set (by omega) (by omega) (xl_icing hh) (rg_no _ (by omega) (by omega) (by omega) (by omega)))
  · rw [hk, if_neg (by decide), if_neg (by decide), if_neg (by decide), if_pos rfl, m1]
    refine ok2_jr (ok2_fr (by decide) (ok2_jr (ok2_tr rfl ?_)))
    unfold x17_comes x13_one
    obtain ⟨v, hv, ev⟩ := S.wl hh hw
    rw [nI_add, rd_eq (i := 5 * i + 3) (by omega) (by decide), Option.bind_some, Option.bind_some, em, ex, x1, x2, x3, m3, m4, Option.bind_some, ix_eq hh (by decide), Option.bind_some, bakes_x S hh hw ev hv (by omega), Option.bind_some, wallOf_m μ hh hw, Option.bind_some, wl, ev, hw_more hh hw hv (by omega), Option.bind_some]
    refine ok2_jr (ok2_fr (by decide) (ok2_fr (by decide) ?_))
    exact ok2_some (S.wset hh hw (by omega))
  · rw [hk, if_neg (by decide), if_neg (by decide), if_neg (by decide), if_neg (by decide), if_pos rfl, m1]
    refine ok2_jr (ok2_fr (by decide) (ok2_jr (ok2_fr (by decide) (ok2_jr (ok2_tr rfl ?_)))))
    unfold x18_comes x13_one
    obtain ⟨r, c1, c2⟩ := canWed2 S hh
    rw [ex, x1, Option.bind_some, c1, Option.bind_some, c2, Option.bind_some]
    refine ok2_ii Iff.rfl (fun _ _ => ok2_fr (by decide) (ok2_some S)) (fun _ _ => ?_)
    obtain ⟨I', μ', e1, e2, S'⟩ := weds2 A S hh
    rw [e1, e2, Option.bind_some, Option.bind_some]
    exact ok2_fr (by decide) (ok2_some S')
  · rw [hk, if_neg (by decide), if_neg (by decide), if_neg (by decide), if_neg (by decide), if_neg (by decide), if_pos rfl, m1]
    refine ok2_jr (ok2_fr (by decide) (ok2_jr (ok2_fr (by decide) (ok2_jr (ok2_fr (by decide) (ok2_tr rfl ?_))))))
    unfold x19_comes x13_one
    rw [ex, x1, Option.bind_some, ix_eq hh (by decide), Option.bind_some, bsd S.br hh, Option.bind_some, stand_m μ hh, Option.bind_some]
    refine ok2_ii Iff.rfl (fun _ _ => ok2_some S) (fun _ _ => ?_)
    exact ok2_b (razes2 A S hh) (fun I' μ' S' => ok2_some S')
theorem lt_of_nle {c i : Nat} (hc : c < 2 ^ 31) (hi : i ≤ c) (h : ¬ nI c ≤ nI i) : i < c := by
  have := mt (nI_leI (a := c) (b := i) hc (by omega)).mpr h
  omega
theorem clamp_s {c i : Nat} (hc : c < 2 ^ 31) (h : i < c) : c - (nI (i + 1)).toNatClampNeg < c - (nI i).toNatClampNeg := by
  rw [nI_clamp (by omega), nI_clamp (by omega)]
  omega
theorem clamp_0 {c : Nat} (hc : c < 20000) : c - (nI 0).toNatClampNeg < fuel := by
  show _ < 20000
  omega
/-- the sky -/
theorem sky2 (B : BL kd b sk cs of co P0 I0 μ0) (S : ST b P0 I0 μ0 P I μ) {R R' : Type} {k : Mem → Option R} {k' : Mem → Option R'} {Q : R → R' → Prop} (hk : ∀ I' μ', ST b P0 I0 μ0 P I' μ' → ok2 (k I') (k' μ') Q) :
    ok2 (lp (fun again89 (j88 : Int32 × Mem) => (pk kd (P b 11) (18, 0, 0)).bind fun b91 => (j2_size j88.2 b91).bind fun r93 => if r93 ≤ j88.1 then k j88.2 else (pk kd (P b 11) (18, 0, 0)).bind fun b95 => (j2_get kd P j88.2 b95 j88.1).bind fun r97 => (ckE kd r97).bind fun _ => (x13_isOf j88.2 r97 (j88.2 b 19)).bind fun r100 => if (bI r100) = 0 then again89 ((j88.1 + (nI 1)), j88.2) else (pk kd (P b 11) (18, 0, 0)).bind fun b101 => (j2_get kd P j88.2 b101 j88.1).bind fun r103 => (ckE kd r103).bind fun _ => (en_comes kd P j88.2 r103 b).bind fun r106 => again89 ((j88.1 + (nI 1)), r106)) fuel ((nI 0), I)) ((m_skyOf μ).bind k') Q := by
  have hcs : cs ≤ 16 := B.sl.2.2.1
  unfold m_skyOf
  refine ok2_lpb (fun s s' => ∃ i, i ≤ cs ∧ s.1 = nI i ∧ s'.1 = nI (3 * i) ∧ ST b P0 I0 μ0 P s.2 s'.2) (fun s => cs - s.1.toNatClampNeg) ?_ fuel fuel _ _ ⟨0, Nat.zero_le _, rfl, rfl, S⟩ (clamp_0 (c := cs) (by omega)) (clamp_0 (c := cs) (by omega))
  rintro again again' ⟨s1, I1⟩ ⟨s2, μ1⟩ ⟨i, hi, e1, e2, S1⟩ ih
  dsimp only at e1 e2 S1 ih ⊢
  subst e1 e2
  have L := B.sl.to B.sn S1
  have hp : pk kd (P b 11) (18, 0, 0) = some sk := pk_of (by rw [S1.fp _ _ (by omega)]; exact B.sp) L.1
  have em : μ1 34 = μ0 34 := S1.fm 34 (by decide) (by decide) (by decide) (by decide)
  have e33 : μ1 33 0 = nI cs := by rw [S1.fm 33 (by decide) (by decide) (by decide) (by decide)]; exact B.sm
  unfold j2_size
  rw [hp, Option.bind_some, Option.bind_some, ite_bind]
  refine ok2_ii (by rw [L.2.1, e33, pk_mul, nI_leI (by omega) (by omega), nI_leI (by omega) (by omega)]; omega) (fun _ _ => ?_) (fun c _ => ?_)
  · rw [Option.bind_some]
    exact hk _ _ S1
  · rw [L.2.1] at c
    have hlt := lt_of_nle (by omega) hi c
    obtain ⟨e, hg, E⟩ := L.get hlt
    obtain ⟨hc, x0, hkk⟩ := E
    have ex : I1 e = I0 e := S1.fx e hc
    have go : ∀ I2 μ2, ST b P0 I0 μ0 P I2 μ2 → ok2 (again (nI (i + 1), I2)) ((again' (nI (3 * i + 3), μ2)).bind k') Q := fun I2 μ2 S2 => ih _ _ ⟨i + 1, hlt, rfl, rfl, S2⟩ (clamp_s (by omega) hlt)
    rw [Option.bind_some, hg, Option.bind_some, ckE_of (by rcases hkk with h | h; exact Or.inl h.1; exact Or.inr (Or.inl h.1)), Option.bind_some, rd_eq (i := 3 * i) (by omega) (by decide), Option.bind_some, rd_eq (i := 0) (by omega) (by decide), Option.bind_some, em, nI_add, nI_add]
    unfold x13_isOf jn
    rw [ex, x0, S1.br.quarter]
    simp only [Option.bind_some]
    by_cases cq : μ0 34 (3 * i) = μ1 1 0
    · rw [if_pos cq, if_pos cq, Option.bind_some, if_neg (by decide), hg, Option.bind_some, ckE_of (by rcases hkk with h | h; exact Or.inl h.1; exact Or.inr (Or.inl h.1)), Option.bind_some, nI_add, nI_add, rd_eq (i := 3 * i + 1) (by omega) (by decide)]
      simp only [Option.bind_some]
      rw [em]
      unfold en_comes
      rcases hkk with ⟨kk, m1, x1⟩ | ⟨kk, h⟩
      · rw [kk, if_pos rfl, m1, if_pos nI_0, rd_eq (i := 3 * i + 2) (by omega) (by decide), Option.bind_some, em, wr_eq (i := 3) (by decide) (by decide), Option.bind_some]
        unfold x14_comes x13_one
        rw [ex, x1, Option.bind_some]
        exact ok2_nl (go _ _ (S1.set (i := 3) (by omega) (by omega) rfl (rg_no _ (by omega) (by omega) (by omega) (by omega))))
      · rw [kk, if_neg (by decide), if_pos rfl]
        unfold x15_comes x13_one
        rw [ex, Option.bind_some]
        rcases h with ⟨m1, x1⟩ | ⟨m1, x1⟩
        · rw [m1, x1, if_neg (by decide), if_pos rfl, wr_eq (i := 4) (by decide) (by decide), Option.bind_some]
          exact ok2_nl (go _ _ (S1.set (i := 4) (by omega) (by omega) rfl (rg_frost (Or.inr rfl))))
        · rw [m1, x1, if_neg (by decide), if_neg (by decide), wr_eq (i := 4) (by decide) (by decide), Option.bind_some]
          exact ok2_nl (go _ _ (S1.set (i := 4) (by omega) (by omega) rfl (rg_frost (Or.inl rfl))))
    · rw [if_neg cq, if_neg cq, Option.bind_some, if_pos (by decide)]
      exact go _ _ S1
end PASS
