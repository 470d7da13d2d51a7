section PASSB
variable {kd : Kd} {b n nt sk cs of co : Nat} {P0 P : Ptr} {I0 μ0 I μ : Mem}
theorem ok2_lpl {S R R' : Type} {body : (S → Option R) → S → Option R} {p : Option R'} {Q : R → R' → Prop} (Inv : S → Prop) (me : S → Nat)
    (h : ∀ again s, Inv s → (∀ t, Inv t → me t < me s → ok2 (again t) p Q) → ok2 (body again s) p Q) : ∀ n s, Inv s → me s < n → ok2 (lp body n s) p Q := by
  intro n
  induction n with
  | zero => intro s _ hn; exact absurd hn (Nat.not_lt_zero _)
  | succ n ih => intro s hs hn; exact h (lp body n) s hs (fun t ht hlt => ih t ht (by omega))
theorem ok2_lpr {S R R' : Type} {body : (S → Option R') → S → Option R'} {o : Option R} {Q : R → R' → Prop} (Inv : S → Prop) (me : S → Nat)
    (h : ∀ again s, Inv s → (∀ t, Inv t → me t < me s → ok2 o (again t) Q) → ok2 o (body again s) Q) : ∀ n s, Inv s → me s < n → ok2 o (lp body n s) Q := by
  intro n
  induction n with
  | zero => intro s _ hn; exact absurd hn (Nat.not_lt_zero _)
  | succ n ih => intro s hs hn; exact h (lp body n) s hs (fun t ht hlt => ih t ht (by omega))
theorem ok2_jgen {S α β : Type} {K : S → Option α} {f : (S → Option α) → Option α} {p : Option β} {Q : α → β → Prop} (h : ∀ k, k = K → ok2 (f k) p Q) : ok2 (jn K f) p Q := h K rfl
theorem sd_bI {β : Bool} (h : ¬ bI β = 0) : β = true := by cases β; exact absurd rfl h; rfl
theorem ss_lt12 (μ : Mem) {n : Nat} (hn : n ≤ 12) : ss μ n < 4096 := Nat.lt_of_lt_of_le (ss_lt μ n) (Nat.pow_le_pow_right (by decide) hn)
/-- the office -/
theorem office2 (A : BA kd b n nt P0 I0 μ0) (B : BL kd b sk cs of co P0 I0 μ0) (S : ST b P0 I0 μ0 P I μ) {R R' : Type} {k : Mem → Option R} {k' : Mem → Option R'} {Q : R → R' → Prop} (hk : ∀ I' μ', ST b P0 I0 μ0 P I' μ' → ok2 (k I') (k' μ') Q) :
    ok2 (lp (fun again70 (j69 : Int32 × Mem) => (pk kd (P b 12) (18, 0, 0)).bind fun b72 => (j2_size j69.2 b72).bind fun r74 => if r74 ≤ j69.1 then k j69.2 else (pk kd (P b 12) (18, 0, 0)).bind fun b76 => (j2_get kd P j69.2 b76 j69.1).bind fun r78 => (ckE kd r78).bind fun _ => (x13_isOf j69.2 r78 (j69.2 b 19)).bind fun r81 => if (bI r81) = 0 then again70 ((j69.1 + (nI 1)), j69.2) else (pk kd (P b 12) (18, 0, 0)).bind fun b82 => (j2_get kd P j69.2 b82 j69.1).bind fun r84 => (ckE kd r84).bind fun _ => (en_comes kd P j69.2 r84 b).bind fun r87 => again70 ((j69.1 + (nI 1)), r87)) fuel ((nI 0), I))
      (lp (fun again56 (j55 : Int32 × Mem) => if ((nI 5) * (j55.2 35 0)) ≤ j55.1 then k' j55.2 else (rd j55.2 36 160 j55.1).bind fun v58 => (rd j55.2 1 115 (nI 0)).bind fun v59 => jn (fun (j60 : Mem) => again56 ((j55.1 + (nI 5)), j60)) (fun k61 => if v58 = v59 then (m_does j55.2 j55.1).bind fun r63 => k61 r63 else k61 j55.2)) fuel ((nI 0), μ)) Q := by
  have hco : co ≤ 16 := B.ol.2.2.1
  refine ok2_lp (fun s s' => ∃ i, i ≤ co ∧ s.1 = nI i ∧ s'.1 = nI (5 * i) ∧ ST b P0 I0 μ0 P s.2 s'.2) (fun s => co - s.1.toNatClampNeg) ?_ fuel fuel _ _ ⟨0, Nat.zero_le _, rfl, rfl, S⟩ (clamp_0 (c := co) (by omega)) (clamp_0 (c := co) (by omega))
  rintro again again' ⟨s1, I1⟩ ⟨s2, μ1⟩ ⟨i, hi, e1, e2, S1⟩ ih
  dsimp only at e1 e2 S1 ih ⊢
  subst e1 e2
  have L := B.ol.to B.on S1
  have hp : pk kd (P b 12) (18, 0, 0) = some of := pk_of (by rw [S1.fp _ _ (by omega)]; exact B.op) L.1
  have em : μ1 36 = μ0 36 := S1.fm 36 (by decide) (by decide) (by decide) (by decide)
  have e35 : μ1 35 0 = nI co := by rw [S1.fm 35 (by decide) (by decide) (by decide) (by decide)]; exact B.om
  unfold j2_size
  rw [hp, Option.bind_some, Option.bind_some]
  refine ok2_ii (by rw [L.2.1, e35, pk_mul, nI_leI (by omega) (by omega), nI_leI (by omega) (by omega)]; omega) (fun _ _ => hk _ _ S1) (fun c _ => ?_)
  rw [L.2.1] at c
  have hlt := lt_of_nle (by omega) hi c
  obtain ⟨e, hg, E⟩ := L.get hlt
  have ex : I1 e = I0 e := S1.fx e E.1
  have hck : ckE kd e = some e := by
    obtain ⟨_, _, h, _, _, _, hkk⟩ := E
    refine ckE_of ?_
    rcases hkk with q | q | q | q
    · exact Or.inr (Or.inr (Or.inl q.1))
    · exact Or.inr (Or.inr (Or.inr (Or.inl q.1)))
    · exact Or.inr (Or.inr (Or.inr (Or.inr (Or.inl q.1))))
    · exact Or.inr (Or.inr (Or.inr (Or.inr (Or.inr q.1))))
  have go : ∀ I2 μ2, ST b P0 I0 μ0 P I2 μ2 → ok2 (again (nI (i + 1), I2)) (again' (nI (5 * i + 5), μ2)) Q := fun I2 μ2 S2 => ih _ _ ⟨i + 1, hlt, rfl, rfl, S2⟩ (clamp_s (by omega) hlt)
  rw [rd_eq (i := 5 * i) (by omega) (by decide), rd_eq (i := 0) (by omega) (by decide)]
  unfold x13_isOf jn
  simp only [Option.bind_some, hg, hck, nI_add]
  rw [ex, E.2.1, em, S1.br.quarter]
  by_cases cq : μ0 36 (5 * i) = μ1 1 0
  · rw [if_pos cq, if_pos cq, Option.bind_some, if_neg (by decide)]
    exact ok2_b (off_e A S1 (by omega) E) (fun I2 μ2 S2 => go _ _ S2)
  · rw [if_neg cq, if_neg cq, Option.bind_some, if_pos (by decide)]
    exact go _ _ S1
theorem rain2 (A : BA kd b n nt P0 I0 μ0) (T : TL kd b P0 I0 μ0) {P4 : Ptr} {I4 μ4 : Mem} (S4 : ST b P0 I0 μ0 P4 I4 μ4) : ∀ (kx : Ptr × Mem → Option (Int32 × Ptr × Mem)) (km : Mem → Option (Int32 × Mem)), (∀ j j', ST b P0 I0 μ0 j.1 j.2 j' → ok2 (kx j) (km j') (fun r t => r.1 = t.1 ∧ ST b P0 I0 μ0 r.2.1 r.2.2 t.2)) →
      ok2 (lp (fun again49 (j48 : Int32 × Ptr × Mem) => if (j48.2.2 b 14) ≤ j48.1 then kx (j48.2.1, j48.2.2) else (x1_isMelting kd j48.2.1 j48.2.2 b j48.1).bind fun r51 => again49 ((j48.1 + (nI 1)), r51.1, r51.2)) fuel ((nI 0), P4, I4))
        (jn (fun (j12 : Mem) => jn km (fun k16 => lp (fun again34 (j33 : Int32 × Mem) => if (j33.2 6 0) ≤ j33.1 then k16 j33.2 else (rd j33.2 1 115 (nI 4)).bind fun v36 => if v36 = (nI 1) then (m_doesStand j33.2 j33.1).bind fun r37 => if (bI r37) = 0 then again34 ((j33.1 + (nI 1)), j33.2) else (rd j33.2 1 115 ((nI 55) + j33.1)).bind fun v38 => (m_lesser j33.2 (nI 9) (v38 + (nI 1))).bind fun r39 => (wr j33.2 1 115 ((nI 55) + j33.1) r39).bind fun μ40 => again34 ((j33.1 + (nI 1)), μ40) else again34 ((j33.1 + (nI 1)), j33.2)) fuel ((nI 0), j12))) (fun k13 => lp (fun again42 (j41 : Int32 × Mem) => if (j41.2 6 0) ≤ j41.1 then k13 j41.2 else (m_doesMelt j41.2 j41.1).bind fun r44 => again42 ((j41.1 + (nI 1)), r44)) fuel ((nI 0), μ4))) (fun r t => r.1 = t.1 ∧ ST b P0 I0 μ0 r.2.1 r.2.2 t.2) := by
  have hn := A.hn
  have exn : ∀ {P' : Ptr} {I' μ' : Mem}, ST b P0 I0 μ0 P' I' μ' → I' b 14 = nI n := fun S' => by rw [S'.br.houses]; exact A.n6 S'
  intro kx km hk
  rcases (S4.rgs 4 (by decide)).2.2.2.1 rfl with hf | hf
  · refine ok2_jr ?_
    refine ok2_lp (fun s s' => ∃ h, h ≤ n ∧ s.1 = nI h ∧ s'.1 = nI h ∧ ST b P0 I0 μ0 s.2.1 s.2.2 s'.2 ∧ s'.2 1 4 = nI 0) (fun s => n - s.1.toNatClampNeg) ?_ fuel fuel _ _ ⟨0, Nat.zero_le _, rfl, rfl, S4, hf⟩ (clamp_0 (c := n) (by omega)) (clamp_0 (c := n) (by omega))
    rintro again again' ⟨s1, P3, I3⟩ ⟨s2, μ3⟩ ⟨h, hh, e1, e2, S3, hf3⟩ ih
    dsimp only at e1 e2 S3 hf3 ih ⊢
    subst e1 e2
    refine ok2_ii (by rw [exn S3, A.n6 S3]) (fun _ _ => ?_) (fun c _ => ?_)
    · refine ok2_jr (ok2_lpr (fun s => ∃ h, h ≤ n ∧ s.1 = nI h ∧ s.2 = μ3) (fun s => n - s.1.toNatClampNeg) ?_ fuel _ ⟨0, Nat.zero_le _, rfl, rfl⟩ (clamp_0 (c := n) (by omega)))
      rintro again ⟨s1, μ5⟩ ⟨h, hh, e1, e2⟩ ih
      dsimp only at e1 e2 ih ⊢
      subst e1 e2
      refine ok2_ir (fun _ => hk _ _ S3) (fun c => ?_)
      rw [A.n6 S3] at c
      have hlt := lt_of_nle (by omega) hh c
      rw [rd_eq (i := 4) (by decide) (by decide), Option.bind_some, hf3, nI_add]
      exact ok2_fr (by decide) (ih _ ⟨h + 1, hlt, rfl, rfl⟩ (clamp_s (by omega) hlt))
    · rw [exn S3] at c
      have hlt := lt_of_nle (by omega) hh c
      rw [nI_add]
      exact ok2_b (melt2 T S3 (by omega) hf3) (fun r μ5 h5 => ih _ _ ⟨h + 1, hlt, rfl, rfl, h5.1, h5.2⟩ (clamp_s (by omega) hlt))
  · refine ok2_jr (ok2_lpr (fun s => ∃ h, h ≤ n ∧ s.1 = nI h ∧ s.2 = μ4) (fun s => n - s.1.toNatClampNeg) ?_ fuel _ ⟨0, Nat.zero_le _, rfl, rfl⟩ (clamp_0 (c := n) (by omega)))
    rintro again ⟨s1, μ5⟩ ⟨h, hh, e1, e2⟩ ih
    dsimp only at e1 e2 ih ⊢
    subst e1 e2
    refine ok2_ir (fun _ => ?_) (fun c => ?_)
    · refine ok2_jr (ok2_lp (fun s s' => ∃ h, h ≤ n ∧ s.1 = nI h ∧ s'.1 = nI h ∧ s.2.1 = P4 ∧ ST b P0 I0 μ0 P4 s.2.2 s'.2 ∧ s'.2 1 4 = nI 1) (fun s => n - s.1.toNatClampNeg) ?_ fuel fuel _ _ ⟨0, Nat.zero_le _, rfl, rfl, rfl, S4, hf⟩ (clamp_0 (c := n) (by omega)) (clamp_0 (c := n) (by omega)))
      rintro again again' ⟨s1, P3, I3⟩ ⟨s2, μ3⟩ ⟨h, hh, e1, e2, e3, S3, hf3⟩ ih
      dsimp only at e1 e2 e3 S3 hf3 ih ⊢
      subst e1 e2 e3
      refine ok2_ii (by rw [exn S3, A.n6 S3]) (fun _ _ => hk _ _ S3) (fun c _ => ?_)
      rw [exn S3] at c
      have hlt := lt_of_nle (by omega) hh c
      obtain ⟨r, er, ep, S5⟩ := hard_x (kd := kd) S3 (show h < 12 by omega) hf3
      rw [er, Option.bind_some, rd_eq (i := 4) (by decide) (by decide), Option.bind_some, hf3, nI_add]
      refine ok2_tr rfl ?_
      rw [stand_m μ3 (by omega), Option.bind_some]
      refine ok2_ir (fun c2 => ?_) (fun c2 => ?_)
      · rw [if_neg (by rw [bI_0.mp c2]; decide)] at S5
        exact ih _ _ ⟨h + 1, hlt, rfl, rfl, ep, S5, hf3⟩ (clamp_s (by omega) hlt)
      · rw [if_pos (sd_bI c2)] at S5
        have hf5 : up2 μ3 1 (55 + h) (imin (nI 9) (μ3 1 (55 + h) + nI 1)) 1 4 = nI 1 := by rw [up2_ne (by omega)]; exact hf3
        rw [nI_add, rd_eq (i := 55 + h) (by omega) (by decide), Option.bind_some, imin_lesser, Option.bind_some, wr_eq (i := 55 + h) (by omega) (by decide), Option.bind_some]
        exact ih _ _ ⟨h + 1, hlt, rfl, rfl, ep, S5, hf5⟩ (clamp_s (by omega) hlt)
    · rw [A.n6 S4] at c
      have hlt := lt_of_nle (by omega) hh c
      rw [melt_no _ hf, Option.bind_some, nI_add]
      exact ih _ ⟨h + 1, hlt, rfl, rfl⟩ (clamp_s (by omega) hlt)
theorem out2 (A : BA kd b n nt P0 I0 μ0) {P5 : Ptr} {I5 μ5 : Mem} (S5 : ST b P0 I0 μ0 P5 I5 μ5) {R R' : Type} {k : Mem → Option R} {k' : Mem → Option R'} {Q : R → R' → Prop} (hk : ∀ j j', (∃ ν, ST b P0 I0 μ0 P5 j ν ∧ j' = AGE ν n) → ok2 (k j) (k' j') Q) :
    ok2 (lp (fun again44 (j43 : Int32 × Mem) => if (j43.2 b 14) ≤ j43.1 then k j43.2 else (x1_leaves kd P5 j43.2 b j43.1).bind fun r46 => again44 ((j43.1 + (nI 1)), r46)) fuel ((nI 0), I5))
      (lp (fun again26 (j25 : Int32 × Mem) => if (j25.2 6 0) ≤ j25.1 then k' j25.2 else (m_areOut j25.2 j25.1).bind fun r28 => (m_doesStand r28 j25.1).bind fun r29 => if (bI r29) = 0 then again26 ((j25.1 + (nI 1)), r28) else (rd r28 1 115 ((nI 103) + j25.1)).bind fun v30 => (m_lesser r28 (nI 9999) (v30 + (nI 1))).bind fun r31 => (wr r28 1 115 ((nI 103) + j25.1) r31).bind fun μ32 => again26 ((j25.1 + (nI 1)), μ32)) fuel ((nI 0), μ5)) Q := by
  have hn := A.hn
  have exn : ∀ {P' : Ptr} {I' μ' : Mem}, ST b P0 I0 μ0 P' I' μ' → I' b 14 = nI n := fun S' => by rw [S'.br.houses]; exact A.n6 S'
  refine ok2_lp (fun s s' => ∃ h ν, h ≤ n ∧ s.1 = nI h ∧ s'.1 = nI h ∧ ST b P0 I0 μ0 P5 s.2 ν ∧ s'.2 = AGE ν h) (fun s => n - s.1.toNatClampNeg) ?_ fuel fuel _ _ ⟨0, μ5, Nat.zero_le _, rfl, rfl, S5, by rw [AGE_0]⟩ (clamp_0 (c := n) (by omega)) (clamp_0 (c := n) (by omega))
  rintro again again' ⟨s1, I3⟩ ⟨s2, μ3⟩ ⟨h, ν, hh, e1, e2, S3, e3⟩ ih
  dsimp only at e1 e2 S3 e3 ih ⊢
  subst e1 e2 e3
  have e6 : AGE ν h 6 0 = nI n := by rw [AGE_EA ν h 6 0 (by omega)]; exact A.n6 S3
  refine ok2_ii (by rw [exn S3, e6]) (fun c _ => ?_) (fun c _ => ?_)
  · rw [exn S3] at c
    have : h = n := by have := (nI_leI (a := n) (b := h) (by omega) (by omega)).mp c; omega
    subst this
    exact hk _ _ ⟨ν, S3, rfl⟩
  · rw [exn S3] at c
    have hlt := lt_of_nle (by omega) hh c
    obtain ⟨l, hl, el⟩ := S3.lines
    obtain ⟨m, hm, em⟩ := A.mk S3 (show h < 12 by omega)
    obtain ⟨I4, ν4, f1, f2, S4⟩ := leaves2 A S3 (show h < 12 by omega)
    obtain ⟨ν4', μ4, g1, g2, E4, O1, O2⟩ := out_age (AGE_EA ν h) hl el (show h < 12 by omega) hn (A.n6 S3) em hm
    rw [f2] at g1
    cases g1
    have e4 := AGE_of (show h ≤ 12 by omega) E4 O1 O2
    subst e4
    rw [f1, g2, Option.bind_some, Option.bind_some, stand_m _ (by omega), (AGE_EA ν4 h).sd (by omega), Option.bind_some, nI_add]
    refine ok2_ir (fun c2 => ?_) (fun c2 => ?_)
    · refine ih _ _ ⟨h + 1, ν4, hlt, rfl, rfl, S4, ?_⟩ (clamp_s (by omega) hlt)
      exact (AGE_n ν4 (by rw [bI_0.mp c2]; decide)).symm
    · rw [nI_add, rd_eq (i := 103 + h) (by omega) (by decide), Option.bind_some, imin_lesser, Option.bind_some, wr_eq (i := 103 + h) (by omega) (by decide), Option.bind_some, AGE_at, AGE_s ν4 (sd_bI c2)]
      exact ih _ _ ⟨h + 1, ν4, hlt, rfl, rfl, S4, rfl⟩ (clamp_s (by omega) hlt)
theorem old2 (A : BA kd b n nt P0 I0 μ0) {P5 : Ptr} {I6 ν : Mem} (S6 : ST b P0 I0 μ0 P5 I6 ν) {R R' : Type} {k : Mem → Option R} {p : Option R'} {Q : R → R' → Prop} (hk : ∀ j, ST b P0 I0 μ0 P5 j (AGE ν n) → ok2 (k j) p Q) :
    ok2 (lp (fun again29 (j28 : Int32 × Mem) => if (j28.2 b 14) ≤ j28.1 then k j28.2 else (ix 12 j28.1).bind fun i31 => (ix 12 j28.1).bind fun i33 => (x3_stands j28.2 (b + 245 + 2 * i33)).bind fun r35 => jn (fun (j37 : Int32) => nm (up2 j28.2 (b + 245 + 2 * i31) 6 ((j28.2 (b + 245 + 2 * i31) 6) + j37)) fun I40 => again29 ((j28.1 + (nI 1)), I40)) (fun k38 => if (bI r35) = 0 then k38 (nI 0) else (ix 12 j28.1).bind fun i41 => if (nI 9999) ≤ (j28.2 (b + 245 + 2 * i41) 6) then k38 (nI 0) else k38 (nI 1))) fuel ((nI 0), I6)) p Q := by
  have hn := A.hn
  have exn : ∀ {P' : Ptr} {I' μ' : Mem}, ST b P0 I0 μ0 P' I' μ' → I' b 14 = nI n := fun S' => by rw [S'.br.houses]; exact A.n6 S'
  refine ok2_lpl (fun s => ∃ h, h ≤ n ∧ s.1 = nI h ∧ ST b P0 I0 μ0 P5 s.2 (AGE ν h)) (fun s => n - s.1.toNatClampNeg) ?_ fuel _ ⟨0, Nat.zero_le _, rfl, by rw [AGE_0]; exact S6⟩ (clamp_0 (c := n) (by omega))
  rintro again ⟨s1, I7⟩ ⟨h, hh, e1, S7⟩ ih
  dsimp only at e1 S7 ih ⊢
  subst e1
  refine ok2_il (fun c => ?_) (fun c => ?_)
  · rw [exn S7] at c
    have : h = n := by have := (nI_leI (a := n) (b := h) (by omega) (by omega)).mp c; omega
    subst this
    exact hk _ S7
  · rw [exn S7] at c
    have hlt := lt_of_nle (by omega) hh c
    obtain ⟨q, hq, eq⟩ := (S7.rgs (103 + h) (by omega)).2.2.1 (by omega)
    rw [ix_eq (by omega) (by decide), Option.bind_some, Option.bind_some, bsd S7.br (by omega), Option.bind_some, (AGE_EA ν h).sd (by omega), nI_add]
    refine ok2_jl ?_
    have go : ∀ x, up2 (AGE ν h) 1 (103 + h) x = AGE ν (h + 1) → rg (103 + h) x → ok2 (again (nI (h + 1), up2 I7 (b + 245 + 2 * h) 6 x)) _ _ := fun x ex hx => ih _ ⟨h + 1, hlt, rfl, by
      show ST b P0 I0 μ0 P5 (up2 I7 (b + 245 + 2 * h) 6 x) (AGE ν (h + 1))
      rw [← ex]
      exact S7.set (by omega) (by omega) (xl_age (by omega)) hx⟩ (clamp_s (by omega) hlt)
    have ea := S7.br.age (k := h) (by omega)
    rw [eq] at ea
    have eq' : ν 1 (103 + h) = nI q := by rw [← AGE_at ν h]; exact eq
    refine ok2_il (fun c2 => ?_) (fun c2 => ?_)
    · dsimp only
      refine ok2_nl ?_
      rw [ea, nI_add]
      exact go _ (by rw [up2_id (by rw [eq]; rfl)]; exact (AGE_n ν (by rw [bI_0.mp c2]; decide)).symm) (rg_age (by omega) (by omega))
    · rw [Option.bind_some]
      refine ok2_il (fun c3 => ?_) (fun c3 => ?_)
      · dsimp only
        refine ok2_nl ?_
        rw [ea] at c3 ⊢
        rw [nI_add]
        have : q = 9999 := by have := (nI_leI (a := 9999) (b := q) (by omega) (by omega)).mp c3; omega
        refine go _ ?_ (rg_age (by omega) (by omega))
        rw [← AGE_s ν (sd_bI c2), eq', nI_add, imin_nI (by omega) (by omega), show min 9999 (q + 1) = q + 0 by omega]
      · dsimp only
        refine ok2_nl ?_
        rw [ea] at c3 ⊢
        rw [nI_add]
        have : q < 9999 := by
          have := mt (nI_leI (a := 9999) (b := q) (by omega) (by omega)).mpr c3
          omega
        refine go _ ?_ (rg_age (by omega) (by omega))
        rw [← AGE_s ν (sd_bI c2), eq', nI_add, imin_nI (by omega) (by omega), show min 9999 (q + 1) = q + 1 by omega]
/-- a quarter -/
theorem passes2 (A : BA kd b n nt P0 I0 μ0) (B : BL kd b sk cs of co P0 I0 μ0) (T : TL kd b P0 I0 μ0) (S : ST b P0 I0 μ0 P I μ) : ok2 (x1_passes kd P I b) (m_goesBy μ) (fun r t => r.1 = t.1 ∧ ST b P0 I0 μ0 r.2.1 r.2.2 t.2) := by
  have hn := A.hn
  unfold x1_passes m_goesBy
  refine ok2_jgen (fun k ek => sky2 B S (fun I1 μ1 S1 => ?_))
  subst ek
  refine ok2_jj (fun j j' => ST b P0 I0 μ0 P j j') ?_ (fun k k' hk => office2 A B S1 (fun I2 μ2 S2 => hk _ _ S2))
  intro I2 μ2 S2
  rw [bss S2.br hn (A.n6 S2), Option.bind_some, standing_m hn (A.n6 S2), Option.bind_some]
  have exn : ∀ {P' : Ptr} {I' μ' : Mem}, ST b P0 I0 μ0 P' I' μ' → I' b 14 = nI n := fun S' => by rw [S'.br.houses]; exact A.n6 S'
  -- pays
  refine ok2_jj (fun j j' => ST b P0 I0 μ0 j.1 j.2 j') ?_ (fun k k' hk => ?_)
  rotate_left
  · refine ok2_lp (fun s s' => ∃ h, h ≤ n ∧ s.1 = nI h ∧ s'.1 = nI h ∧ ST b P0 I0 μ0 s.2.1 s.2.2 s'.2) (fun s => n - s.1.toNatClampNeg) ?_ fuel fuel _ _ ⟨0, Nat.zero_le _, rfl, rfl, S2⟩ (clamp_0 (c := n) (by omega)) (clamp_0 (c := n) (by omega))
    rintro again again' ⟨s1, P3, I3⟩ ⟨s2, μ3⟩ ⟨h, hh, e1, e2, S3⟩ ih
    dsimp only at e1 e2 S3 ih ⊢
    subst e1 e2
    refine ok2_ii (by rw [exn S3, A.n6 S3]) (fun _ _ => hk _ _ S3) (fun c _ => ?_)
    rw [exn S3] at c
    have hlt := lt_of_nle (by omega) hh c
    have go : ∀ P4 I4 μ4, ST b P0 I0 μ0 P4 I4 μ4 → ok2 (again (nI (h + 1), P4, I4)) (again' (nI (h + 1), μ4)) _ := fun P4 I4 μ4 S4 => ih _ _ ⟨h + 1, hlt, rfl, rfl, S4⟩ (clamp_s (by omega) hlt)
    rw [ix_eq (by omega) (by decide), Option.bind_some, bsd S3.br (by omega), Option.bind_some, stand_m μ3 (by omega), Option.bind_some, nI_add, nI_add]
    refine ok2_ii Iff.rfl (fun _ _ => go _ _ _ S3) (fun _ _ => ?_)
    rw [rd_eq (i := 79 + h) (by omega) (by decide), Option.bind_some]
    refine ok2_ii (by rw [S3.br.lodgers (by omega)]) (fun _ _ => go _ _ _ S3) (fun _ _ => ?_)
    exact ok2_b (pays2 A T S3 (by omega)) (fun r μ4 S4 => go _ _ _ S4)
  rintro ⟨P3, I3⟩ μ3 S3
  dsimp only at S3 ⊢
  -- ants
  refine ok2_jj (fun j j' => ST b P0 I0 μ0 j.1 j.2 j') ?_ (fun k k' hk => ?_)
  rotate_left
  · refine ok2_lp (fun s s' => ∃ h, h ≤ n ∧ s.1 = nI h ∧ s'.1 = nI h ∧ ST b P0 I0 μ0 s.2.1 s.2.2 s'.2) (fun s => n - s.1.toNatClampNeg) ?_ fuel fuel _ _ ⟨0, Nat.zero_le _, rfl, rfl, S3⟩ (clamp_0 (c := n) (by omega)) (clamp_0 (c := n) (by omega))
    rintro again again' ⟨s1, P3, I3⟩ ⟨s2, μ3⟩ ⟨h, hh, e1, e2, S3⟩ ih
    dsimp only at e1 e2 S3 ih ⊢
    subst e1 e2
    refine ok2_ii (by rw [exn S3, A.n6 S3]) (fun _ _ => hk _ _ S3) (fun c _ => ?_)
    rw [exn S3] at c
    have hlt := lt_of_nle (by omega) hh c
    have go : ∀ P4 I4 μ4, ST b P0 I0 μ0 P4 I4 μ4 → ok2 (again (nI (h + 1), P4, I4)) (again' (nI (h + 1), μ4)) _ := fun P4 I4 μ4 S4 => ih _ _ ⟨h + 1, hlt, rfl, rfl, S4⟩ (clamp_s (by omega) hlt)
    rw [nI_add]
    exact ok2_b (gnawed2 T S3 (by omega)) (fun r μ4 S4 => go _ _ _ S4)
  rintro ⟨P4, I4⟩ μ4 S4
  dsimp only at S4 ⊢
  -- rain or frost
  refine ok2_jgen (fun kx ek => rain2 A T S4 kx _ ?_)
  subst ek
  rintro ⟨P5, I5⟩ μ5 S5
  dsimp only at S5 ⊢
  refine ok2_jj (fun j j' => ∃ ν, ST b P0 I0 μ0 P5 j ν ∧ j' = AGE ν n) ?_ (fun k k' hk => out2 A S5 hk)
  rintro I6 μ6 ⟨ν, S6, rfl⟩
  refine ok2_jgen (fun k ek => old2 A S6 (fun I7 S7 => ?_))
  subst ek
  refine ok2_nl ?_
  rw [rd_eq (i := 0) (by decide) (by decide), Option.bind_some, wr_eq (i := 0) (by decide) (by decide), Option.bind_some, S7.br.quarter]
  have S8 := S7.set (i := 0) (by omega) (by omega) rfl (x := AGE ν n 1 0 + nI 1) (rg_no _ (by omega) (by omega) (by omega) (by omega))
  rw [bss S8.br hn (A.n6 S8), Option.bind_some, standing_m hn (A.n6 S8), Option.bind_some]
  obtain ⟨q, hq, eq⟩ := and_small (ss_lt12 μ2 hn) (nI (ss (up2 (AGE ν n) 1 0 (AGE ν n 1 0 + nI 1)) n) ^^^ (-1 : Int32))
  rw [eq, bits_x hq, ones_m _ hq, Option.bind_some, Option.bind_some]
  exact ok2_some ⟨rfl, S8⟩
end PASSB
