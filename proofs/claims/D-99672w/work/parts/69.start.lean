/-! ===== from the law's entry to what the contracts ask of the tables and the old heap ===== -/
theorem nestF_mem : ∀ w ∈ nestF, (Cond.fieldLinkNest w.1 w.2.1 w.2.2.1 w.2.2.2.1 w.2.2.2.2 "GingerRents") ∈ lw_tbl := by decide +kernel
theorem nestM_mem : ∀ w ∈ nestM, (Cond.methodLinkNest w.1 w.2.1 w.2.2 "GingerRents") ∈ lw_tbl := by decide +kernel
theorem decl_mem : ∀ w ∈ declL, (Cond.declares w) ∈ lw_tbl := by decide +kernel
theorem cast_mem : ∀ w ∈ castL, (Cond.castable w.1 w.2) ∈ lw_tbl := by decide +kernel
theorem ao_mem : ∀ ty ∈ aoL, (Cond.arrayOver ty) ∈ lw_tbl := by decide +kernel
theorem va_Nw.of2 {ty : FieldType} {A : Array Value} {U : State} (h : (Cond.arrayOver ty).before A U = true) : va_Nw (.arrayOver ty) U := h
theorem va_eqT {args : Array Value} {s : State} {t : Term} {z : Int32} (h : (Cond.eq t (.int z)).before args s = true) : t.eval args s none [] s = some (.int z) := by
  cases hv : t.eval args s none [] s with
  | none => simp [Cond.before, Cond.holds, Cond.value, hv] at h
  | some w =>
    cases w <;> simp [Cond.before, Cond.holds, Cond.value, hv, Term.eval] at h
    rw [h]
theorem lt_trace {l : Launch} (h : l.flags = flags0) : l.stackTraces = false := by
  unfold Launch.stackTraces
  rw [h]
  decide
theorem str_mem : (∀ i : Nat, i < 27 → (Cond.exactly (.string "GingerRents$Reader" ((strL.map (·.2.1)).getD i 0)) "java/lang/String") ∈ flatC (Cond.and given_1 narrow_1)) ∧ (∀ i : Nat, i < 27 → (Cond.eq (.field (.string "GingerRents$Reader" ((strL.map (·.2.1)).getD i 0)) "java/lang/String" "coder" "B") (.int 0)) ∈ flatC (Cond.and given_1 narrow_1)) ∧ (∀ i : Nat, i < 27 → (Cond.arrayOf (.field (.string "GingerRents$Reader" ((strL.map (·.2.1)).getD i 0)) "java/lang/String" "value" "[B") .byte) ∈ flatC (Cond.and given_1 narrow_1)) ∧ (∀ i : Nat, i < 27 → (Cond.eq (.length (.field (.string "GingerRents$Reader" ((strL.map (·.2.1)).getD i 0)) "java/lang/String" "value" "[B")) (.int (Int32.ofNat (strN.getD i 0)))) ∈ flatC (Cond.and given_1 narrow_1)) ∧ (∀ i : Nat, i < 27 → ∀ j : Nat, j < strN.getD i 0 → (Cond.eq (.elem (.field (.string "GingerRents$Reader" ((strL.map (·.2.1)).getD i 0)) "java/lang/String" "value" "[B") (.int (Int32.ofNat j))) (.int ((strB.getD i []).getD j 0))) ∈ flatC (Cond.and given_1 narrow_1)) := by
  refine ⟨by decide +kernel, by decide +kernel, by decide +kernel, by decide +kernel, by decide +kernel⟩
theorem str_apart : ∀ i : Nat, i < 27 → ∀ j : Nat, j < 27 → strN.getD i 0 = strN.getD j 0 → (∀ k : Nat, k < strN.getD i 0 → (strB.getD i []).getD k 0 = (strB.getD j []).getD k 0) → i = j := by decide +kernel
theorem str_short : ∀ i : Nat, i < 27 → strN.getD i 0 < 100 := by decide +kernel
theorem str_L : ∀ i : Nat, i < 27 → strL[i]? = some ("GingerRents$Reader", (strL.map (·.2.1)).getD i 0, (strL.map (·.2.2)).getD i "") := by decide +kernel
theorem str_ref : ∀ i : Nat, i < 27 → (Cond.stringRef "GingerRents$Reader" ((strL.map (·.2.1)).getD i 0) ((strL.map (·.2.2)).getD i "")) ∈ lw_tbl := by decide +kernel
/-- the string constants, each by itself -/
theorem start_str {args : Array Value} {s : State} {A : Nat → Prop} (hgv : (Cond.and given_1 narrow_1).before args s = true) (hA : ∀ a : Nat, a < s.heap.size → ¬ A a) :
    ∃ adK adV : Nat → Nat, vk_S 27 strN strB adK adV A s s.heap ∧ ∀ i : Nat, i < 27 → (Term.string "GingerRents$Reader" ((strL.map (·.2.1)).getD i 0)).eval args s none [] s = some (.ref (adK i)) := by
  have hs := flat_of_before _ hgv
  obtain ⟨m1, m2, m3, m4, m5⟩ := str_mem
  have one : ∀ i : Nat, ∃ q : Nat × Nat, i < 27 → (va_O "java/lang/String" q.1 A s s.heap ∧ va_OF "java/lang/String" "coder" "B" (.int 0) q.1 A s s.heap ∧ va_OF "java/lang/String" "value" "[B" (.ref q.2) q.1 A s s.heap ∧ va_T .byte q.2 (strN.getD i 0) (fun j => .int ((strB.getD i []).getD j 0)) A s s.heap) ∧ (Term.string "GingerRents$Reader" ((strL.map (·.2.1)).getD i 0)).eval args s none [] s = some (.ref q.1) := by
    intro i
    by_cases hi : i < 27
    · obtain ⟨adK, adV, h1, h2⟩ := vk_Sof (args := args) (s := s) (N := 1) (tm := fun _ => .string "GingerRents$Reader" ((strL.map (·.2.1)).getD i 0)) (len := [strN.getD i 0]) (byt := [strB.getD i []]) (A := A) (fun k hk => by
          have e : k = 0 := by omega
          subst e
          have := str_short i hi
          show strN.getD i 0 < 2 ^ 31
          omega) (fun k hk => hs _ (m1 i hi)) (fun k hk => hs _ (m2 i hi)) (fun k hk => hs _ (m3 i hi)) (fun k hk => by
          have e : k = 0 := by omega
          subst e
          exact hs _ (m4 i hi)) (fun k hk j hj => by
          have e : k = 0 := by omega
          subst e
          exact hs _ (m5 i hi j hj)) (fun a b ha hb hab => absurd (show a = b by omega) hab) hA
      exact ⟨(adK 0, adV 0), fun _ => ⟨h1.1 0 (by decide), h2 0 (by decide)⟩⟩
    · exact ⟨(0, 0), fun h => absurd h hi⟩
  refine ⟨fun i => (Classical.choose (one i)).1, fun i => (Classical.choose (one i)).2, ⟨fun i hi => (Classical.choose_spec (one i) hi).1, fun i j hi hj hij => ?_⟩, fun i hi => (Classical.choose_spec (one i) hi).2⟩
  dsimp only at hij
  have c1 := (Classical.choose_spec (one i) hi).1
  have c2 := (Classical.choose_spec (one j) hj).1
  generalize Classical.choose (one i) = qi at c1 hij
  generalize Classical.choose (one j) = qj at c2 hij
  obtain ⟨a1, a2⟩ := qi
  obtain ⟨b1, b2⟩ := qj
  dsimp only at c1 c2 hij
  subst hij
  obtain ⟨-, -, ⟨cf, k, fi, f, cell, f1, -, f3, -, f5, -⟩, t1⟩ := c1
  obtain ⟨-, -, ⟨cf', k', fi', f', cell', g1, -, g3, -, g5, -⟩, t2⟩ := c2
  cases Option.some.inj (f1.symm.trans g1)
  cases Option.some.inj (f3.symm.trans g3)
  have e := Option.some.inj (f5.symm.trans g5)
  have e : a2 = b2 := by simpa using e
  subst e
  obtain ⟨ce, u1, u2, u3, u4, u5, u6, -⟩ := t1
  obtain ⟨ce', v1, v2, v3, v4, v5, v6, -⟩ := t2
  cases Option.some.inj (u1.symm.trans v1)
  have hlen : strN.getD i 0 = strN.getD j 0 := by
    have h1 := str_short i hi
    have h2 := str_short j hj
    have h3 : Int32.ofNat (strN.getD i 0) = Int32.ofNat (strN.getD j 0) := u5.symm.trans v5
    exact (nI_eq (by omega) (by omega)).mp h3
  refine str_apart i hi j hj hlen (fun k hk => ?_)
  have h4 := Option.some.inj ((u6 k hk).symm.trans (v6 k (by rw [← hlen]; exact hk)))
  simpa using h4
theorem start_K {p : Program} {s : State} {m : MethodId} {meth : Method} {c : Code} {b L : Nat} {xs : Nat → Int32} (C0 : lw_At p s m meth c b L xs) : ∃ (D : va_G) (cs : Cs), ∀ z : Nat, s.heap.size ≤ z → xK D cs z s := by
  obtain ⟨hx, hb, hr, hml, hown, hts, hX, hbl, hlocks, hgv⟩ := id C0
  have hta : ∀ w ∈ lw_all, w.before _ s = true := fun w h => hts w (lw_all_tbl h)
  have hs := flat_of_before _ hgv
  obtain ⟨c0, i0, k0⟩ := u_known (C := RX0) (T := TX0) (N := 19) hta in_X0 (hta _ q187)
  obtain ⟨c1, i1, k1⟩ := u_known (C := RX1) (T := TX1) (N := 26) hta in_X1 (hta _ q195)
  obtain ⟨c2, i2, k2⟩ := u_known (C := RX2) (T := TX2) (N := 2) hta in_X2 (hta _ q205)
  obtain ⟨c3, i3, k3⟩ := u_known (C := RX3) (T := TX3) (N := 8) hta in_X3 (hta _ q247)
  obtain ⟨c4, i4, k4⟩ := u_known (C := RX4) (T := TX4) (N := 75) hta in_X4 (hta _ q1480)
  obtain ⟨c5, i5, k5⟩ := u_known (C := RX5) (T := TX5) (N := 9) hta in_X5 (hta _ q491)
  obtain ⟨c6, i6, k6⟩ := u_known (C := RX6) (T := TX6) (N := 8) hta in_X6 (hta _ q648)
  obtain ⟨c7, i7, k7⟩ := u_known (C := RX8) (T := TX8) (N := 1) hta in_X8 (hta _ q728)
  obtain ⟨c8, i8, k8⟩ := u_known (C := RX9) (T := TX9) (N := 1) hta in_X9 (hta _ q745)
  obtain ⟨c9, i9, k9⟩ := u_known (C := RX10) (T := TX10) (N := 3) hta in_X10 (hta _ q755)
  obtain ⟨c10, i10, k10⟩ := u_known (C := RX11) (T := TX11) (N := 1) hta in_X11 (hta _ q787)
  obtain ⟨c11, i11, k11⟩ := u_known (C := RX12) (T := TX12) (N := 3) hta in_X12 (hta _ q801)
  obtain ⟨c12, i12, k12⟩ := u_known (C := RX14) (T := TX14) (N := 2) hta in_X14 (hta _ q895)
  obtain ⟨c13, i13, k13⟩ := u_known (C := RX15) (T := TX15) (N := 2) hta in_X15 (hta _ q911)
  obtain ⟨c14, i14, k14⟩ := u_known (C := RX16) (T := TX16) (N := 3) hta in_X16 (hta _ q928)
  obtain ⟨c15, i15, k15⟩ := u_known (C := RX17) (T := TX17) (N := 4) hta in_X17 (hta _ q940)
  obtain ⟨c16, i16, k16⟩ := u_known (C := RX18) (T := TX18) (N := 2) hta in_X18 (hta _ q955)
  obtain ⟨c17, i17, k17⟩ := u_known (C := RX19) (T := TX19) (N := 2) hta in_X19 (hta _ q964)
  obtain ⟨c18, i18, k18⟩ := u_known (C := RJ2) (T := TJ2) (N := 3) hta in_J2 (hta _ q222)
  obtain ⟨aI, kI, cI, fI1, fI2, fI3⟩ := Cond.arrayClass_spec (hta _ q220)
  obtain ⟨aB, kB, cB, fB1, fB2, fB3⟩ := Cond.arrayClass_spec (hta _ q219)
  obtain ⟨cII, aII, kII, fII0, fII2, fII3, fII1⟩ := Cond.arrayOver_specA (hts _ q203)
  obtain ⟨cH, aH, kH, fH0, fHx, fH2, fH3, fH1⟩ := Cond.arrayOver_spec (hts _ q201)
  obtain ⟨cR, aR, kR, fR0, fRx, fR2, fR3, fR1⟩ := Cond.arrayOver_spec (hts _ q403)
  obtain ⟨cO, aO, kO, fO0, fOx, fO2, fO3, fO1⟩ := Cond.arrayOver_spec (hts _ q875)
  have hA0 : ∀ a : Nat, a < s.heap.size → ¬ (fun q : Nat => s.heap.size ≤ q) a := fun a h => Nat.not_le.mpr h
  obtain ⟨adK, adV, hS, hSe⟩ := start_str hgv hA0
  obtain ⟨tE, hE1, hE2⟩ := va_Tof (f := fun _ => .null) (A := fun q : Nat => s.heap.size ≤ q) (N := 0) (by decide) (hs (Cond.arrayOf (.static "java/util/ArrayList" "DEFAULTCAPACITY_EMPTY_ELEMENTDATA" "[Ljava/lang/Object;") (.object "java/lang/Object")) (by decide +kernel)) (va_eqT (hs (Cond.eq (.length (.static "java/util/ArrayList" "DEFAULTCAPACITY_EMPTY_ELEMENTDATA" "[Ljava/lang/Object;")) (.int 0)) (by decide +kernel))) (fun j hj => absurd hj (Nat.not_lt_zero j)) hA0
  have zE := va_Zof (hts _ q234) (hta _ q156) hE1 hA0
  have zC := va_Zof (A := fun q : Nat => s.heap.size ≤ q) (hts _ q566) (hta _ q164) (va_eqi (hs (Cond.eq (.static "java/lang/String" "COMPACT_STRINGS" "Z") (.int 1)) (by decide +kernel))) hA0
  have zF := va_Zqof (A := fun q : Nat => s.heap.size ≤ q) (hts _ q582) (hta _ q162) (hs (Cond.isRef (.static "jdk/internal/util/Preconditions" "SIOOBE_FORMATTER" "Ljava/util/function/BiFunction;")) (by decide +kernel)) hA0
  have zU := vx_Zqof (A := fun q : Nat => s.heap.size ≤ q) (hts _ q672) (hta _ q167) (hs (Cond.isRef (.static "java/lang/Throwable" "UNASSIGNED_STACK" "[Ljava/lang/StackTraceElement;")) (by decide +kernel)) hA0
  have zN := vx_Zqof (A := fun q : Nat => s.heap.size ≤ q) (hts _ q674) (hta _ q167) (hs (Cond.isRef (.static "java/lang/Throwable" "SUPPRESSED_SENTINEL" "Ljava/util/List;")) (by decide +kernel)) hA0
  obtain ⟨nU, hU⟩ : ∃ n : Nat, va_Z "java/lang/Throwable" "UNASSIGNED_STACK" "[Ljava/lang/StackTraceElement;" (va_rf (dcO n)) (fun q : Nat => s.heap.size ≤ q) s s.heap := by
    rcases zU.1 with h | ⟨t, h⟩
    · exact ⟨0, h⟩
    · exact ⟨t + 1, h⟩
  obtain ⟨nN, hN⟩ : ∃ n : Nat, va_Z "java/lang/Throwable" "SUPPRESSED_SENTINEL" "Ljava/util/List;" (va_rf (dcO n)) (fun q : Nat => s.heap.size ≤ q) s s.heap := by
    rcases zN.1 with h | ⟨t, h⟩
    · exact ⟨0, h⟩
    · exact ⟨t + 1, h⟩
  obtain ⟨mi, hmi⟩ := va_Mi.of (hs (Cond.isRef (.mirror "[Ljava/lang/Object;")) (by decide +kernel))
  let csf : Cs := fun n => if n = 0 then aI else if n = 1 then aB else if n = 2 then aII else if n = 3 then aH else if n = 4 then aR else if n = 5 then aO else if n = 300 then tE else if n = 301 then nU else if n = 302 then nN else if n = 303 then mi else if n < 200 then adK (n - 100) else adV (n - 200)
  refine ⟨(fun k => [c0, c1, c2, c3, c4, c5, c6, c7, c8, c9, c10, c11, c12, c13, c14, c15, c16, c17, c18].getD k 0, fun k => [i0, i1, i2, i3, i4, i5, i6, i7, i8, i9, i10, i11, i12, i13, i14, i15, i16, i17, i18].getD k (fun _ => 0)), csf, fun z hz => ?_⟩
  have hAz : ∀ q : Nat, xA z q → (fun q : Nat => s.heap.size ≤ q) q := fun q h => Nat.le_trans hz h.1
  have eK : ∀ i : Nat, i < 27 → csf (100 + i) = adK i := fun i hi => by
    show (if 100 + i = 0 then aI else if 100 + i = 1 then aB else if 100 + i = 2 then aII else if 100 + i = 3 then aH else if 100 + i = 4 then aR else if 100 + i = 5 then aO else if 100 + i = 300 then tE else if 100 + i = 301 then nU else if 100 + i = 302 then nN else if 100 + i = 303 then mi else if 100 + i < 200 then adK (100 + i - 100) else adV (100 + i - 200)) = adK i
    rw [if_neg (by omega), if_neg (by omega), if_neg (by omega), if_neg (by omega), if_neg (by omega), if_neg (by omega), if_neg (by omega), if_neg (by omega), if_neg (by omega), if_neg (by omega), if_pos (by omega), Nat.add_sub_cancel_left]
  have eV : ∀ i : Nat, i < 27 → csf (200 + i) = adV i := fun i hi => by
    show (if 200 + i = 0 then aI else if 200 + i = 1 then aB else if 200 + i = 2 then aII else if 200 + i = 3 then aH else if 200 + i = 4 then aR else if 200 + i = 5 then aO else if 200 + i = 300 then tE else if 200 + i = 301 then nU else if 200 + i = 302 then nN else if 200 + i = 303 then mi else if 200 + i < 200 then adK (200 + i - 100) else adV (200 + i - 200)) = adV i
    rw [if_neg (by omega), if_neg (by omega), if_neg (by omega), if_neg (by omega), if_neg (by omega), if_neg (by omega), if_neg (by omega), if_neg (by omega), if_neg (by omega), if_neg (by omega), if_neg (by omega), Nat.add_sub_cancel_left]
  refine ⟨⟨?_, ?_⟩, ?_⟩
  · intro k q hq
    match k, hq with
    | 0, hq => cases hq; exact k0
    | 1, hq => cases hq; exact k1
    | 2, hq => cases hq; exact k2
    | 3, hq => cases hq; exact k3
    | 4, hq => cases hq; exact k4
    | 5, hq => cases hq; exact k5
    | 6, hq => cases hq; exact k6
    | 7, hq => cases hq; exact k7
    | 8, hq => cases hq; exact k8
    | 9, hq => cases hq; exact k9
    | 10, hq => cases hq; exact k10
    | 11, hq => cases hq; exact k11
    | 12, hq => cases hq; exact k12
    | 13, hq => cases hq; exact k13
    | 14, hq => cases hq; exact k14
    | 15, hq => cases hq; exact k15
    | 16, hq => cases hq; exact k16
    | 17, hq => cases hq; exact k17
    | 18, hq => cases hq; exact k18
    | k + 19, hq => simp [clX] at hq
  · intro k q hq
    match k, hq with
    | 0, hq => cases hq; exact ⟨fun n f => ⟨(fun k h => by cases h), kI, fI2, cI, fI3⟩, fI1⟩
    | 1, hq => cases hq; exact ⟨fun n f => ⟨(fun k h => by cases h), kB, fB2, cB, fB3⟩, fB1⟩
    | 2, hq => cases hq; exact ⟨fun n f => ⟨(fun k h => by cases h), kII, fII2, cII, fII3⟩, fII1⟩
    | 3, hq => cases hq; exact ⟨fun n f => ⟨(fun k h => by cases h), kH, fH2, cH, fH3⟩, kH, cH, fH2, fH3, fH0, fH1⟩
    | 4, hq => cases hq; exact ⟨fun n f => ⟨(fun k h => by cases h), kR, fR2, cR, fR3⟩, kR, cR, fR2, fR3, fR0, fR1⟩
    | 5, hq => cases hq; exact ⟨fun n f => ⟨(fun k h => by cases h), kO, fO2, cO, fO3⟩, kO, cO, fO2, fO3, fO0, fO1⟩
    | k + 6, hq => simp [xtys] at hq
  · refine ⟨fun w hw => va_Nw.of rfl (hts _ (nestF_mem w hw)), fun w hw => va_Nw.of rfl (hts _ (nestM_mem w hw)), fun w hw => va_Nw.of rfl (hts _ (decl_mem w hw)), fun w hw => va_Nw.of rfl (hts _ (cast_mem w hw)), va_Fw.of (hts _ q1203) (hts _ q1202) (hts _ q1208) (hts _ q1206) (hts _ q1204), ?_⟩
    refine ⟨⟨fun i hi => ?_, fun i j hi hj h => hS.2 i j hi hj (by rw [← eK i hi, ← eK j hj]; exact h)⟩, fun i w hw => ?_, zC.narrow hAz, zE.narrow hAz, hE2.narrow hAz, zF.narrow hAz, ⟨hU.narrow hAz, zU.2.narrow hAz⟩, ⟨⟨hN.narrow hAz, zN.2.narrow hAz⟩, hmi, va_Dc.of (hts _ q2281)⟩, fun ty hty => va_Nw.of2 (hts _ (ao_mem ty hty))⟩
    · have h := hS.1 i hi
      show va_O "java/lang/String" (csf (100 + i)) (xA z) s s.heap ∧ va_OF "java/lang/String" "coder" "B" (.int 0) (csf (100 + i)) (xA z) s s.heap ∧ va_OF "java/lang/String" "value" "[B" (.ref (csf (200 + i))) (csf (100 + i)) (xA z) s s.heap ∧ va_T .byte (csf (200 + i)) (strN.getD i 0) (fun j => .int ((strB.getD i []).getD j 0)) (xA z) s s.heap
      rw [eK i hi, eV i hi]
      exact ⟨h.1.narrow hAz, h.2.1.narrow hAz, h.2.2.1.narrow hAz, h.2.2.2.narrow hAz⟩
    · have hi : i < 27 := by
        have := (List.getElem?_eq_some_iff.mp hw).1
        exact this
      cases Option.some.inj ((str_L i hi).symm.trans hw)
      rw [eK i hi]
      exact vk_R.of (hts _ (str_ref i hi)) (hSe i hi)
