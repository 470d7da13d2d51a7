/-! ===== rows that are told ===== -/
section TOLD
variable {z : Nat} {kd : Kd} {P : Ptr} {I I' μ μ' : Mem}
theorem BOR.r8 {b : Nat} (K : KI z kd) (B : BOR z b kd P I μ) (hI : ∀ a, b ≤ a → a < b + 269 → ¬ (b + 153 ≤ a ∧ a < b + 241) → I' a = I a) (hM : KEEP z kd kd P P I I') (hν : ∀ k i, rki k i → k < 42 → μ' k i = μ k i) (r0 : R1 I' μ' (b + 153) 9 42 43 0 99) (r1 : R1 I' μ' (b + 164) 8 45 46 1 30) (r2 : R1 I' μ' (b + 174) 5 49 50 1 60) (r3 : R2 I' μ' (b + 181) 8 51 52 53 0 255 0 9) (r4 : R1 I' μ' (b + 191) 16 54 55 0 3) (r5 : R2 I' μ' (b + 209) 6 57 58 59 1 30 1 30) (r6 : RH I' μ' (b + 217)) (r7 : R2 I' μ' (b + 231) 8 66 67 68 0 4095 1 9) : BOR z b kd P I' μ' := by
  refine ⟨fun k i hm => ?_, fun i hi => by rw [hν 1 i hi (by decide)]; exact B.rgs i hi, fun l hl e i k hi hk => ?_, by rw [hν 5 0 (show _ < 1 by omega) (by decide)]; exact B.t5, by rw [hν 6 0 (show _ < 1 by omega) (by decide)]; exact B.n6, by rw [hI b (by omega) (by omega) (by omega), hν 37 0 (show _ < 1 by omega) (by decide)]; exact B.nl, ?_, r0, r1, r2, r3, r4, r5, r6, r7⟩
  · have h1 := xl_house (b := b) hm
    rw [hI _ (by omega) (by omega) (by omega), hν k i (mi_rki hm) (by unfold mi at hm; omega)]
    exact B.br k i hm
  · rw [hν 1 2 (show _ < 115 by omega) (by decide)] at e
    rw [hν 9 _ (show _ < 600 by omega) (by decide), hI _ (by omega) (by omega) (by omega)]
    exact B.bk l hl e i k hi hk
  · obtain ⟨lw, cl, sk, cs, of, co, nt, p0, p1, p2, p3, L⟩ := B.lws
    exact ⟨lw, cl, sk, cs, of, co, nt, p0, p1, p2, p3, LWS.cong K L hM (fun k i h _ h38 => hν k i h (by omega))⟩
theorem RR.r8 (R : RR z kd P I μ) (fx : ∀ a, ¬ (z + 155 ≤ a ∧ a < z + 243) → I' a = I a) (fm : ∀ k, (k < 42 ∨ 69 ≤ k) → μ' k = μ k) (r0 : R1 I' μ' (z + 2 + 153) 9 42 43 0 99) (r1 : R1 I' μ' (z + 2 + 164) 8 45 46 1 30) (r2 : R1 I' μ' (z + 2 + 174) 5 49 50 1 60) (r3 : R2 I' μ' (z + 2 + 181) 8 51 52 53 0 255 0 9) (r4 : R1 I' μ' (z + 2 + 191) 16 54 55 0 3) (r5 : R2 I' μ' (z + 2 + 209) 6 57 58 59 1 30 1 30) (r6 : RH I' μ' (z + 2 + 217)) (r7 : R2 I' μ' (z + 2 + 231) 8 66 67 68 0 4095 1 9) : RR z kd P I' μ' := by
  have e74 : vw μ' = vw μ := vw_eq (fm 74 (by decide))
  have hM : KEEP z kd kd P P I I' := fun a _ ha => ⟨fx a (by unfold IMM at ha; omega), rfl, rfl⟩
  refine ⟨R.K, R.bor.r8 R.K (fun a h1 h2 h3 => fx a (by omega)) hM (fun k i _ hk => by rw [fm k (Or.inl hk)]) r0 r1 r2 r3 r4 r5 r6 r7, ?_, by rw [fx (z + 540) (by omega)]; exact R.th, by rw [fx (z + 271) (by omega)]; exact R.tk, ?_, ?_, ?_, fun t h1 h2 h3 => by rw [fx (z + 2462) (by omega)]; exact R.memo t h1 h2 h3, by rw [fm 69 (by decide)]; exact R.w69, fun i hi => by rw [fm 16 (by decide)]; exact R.wrd i hi⟩
  · rcases R.img with ⟨a, b⟩ | ⟨a, b, c⟩
    · exact Or.inl ⟨by rw [fx z (by omega)]; exact a, by rw [fm 72 (by decide)]; exact b⟩
    · refine Or.inr ⟨by rw [fx z (by omega)]; exact a, by rw [fm 72 (by decide)]; exact b, ?_⟩
      exact c.cong R.K (fun a h1 h2 => fx a (by omega)) (fun j _ => by rw [fx (z + 271) (by omega)]) hM (fun j _ => rfl) (fun k i h => by rw [e74])
  · obtain ⟨l, hl, el⟩ := R.bor.st.lines
    exact R.und.frame (by rw [fx z (by omega)]) (fun a h1 h2 => fx a (by omega)) rfl (fm 2 (by decide)) (by rw [fm 3 (by decide)]) (fm 7 (by decide)) (fm 8 (by decide)) (fun l l' h h' e e' => by rw [fm 1 (by decide)] at e'; exact ln_rfl l l' h h' e e') ⟨l, hl, by rw [fm 1 (by decide)]; exact el⟩
  · obtain ⟨t, ht, a, b, c⟩ := R.tap
    refine ⟨t, ht, by rw [fx z (by omega)]; exact a, by rw [fm 11 (by decide)]; exact b, fun i hi => ?_⟩
    rw [fx (z + 1) (by omega), fm 10 (by decide)]
    exact c i hi
  · rw [fx z (by omega), fm 31 (by decide), fm 32 (by decide)]
    exact R.flt
theorem tells_x {a len c : Nat} (hc : c < len) (hl : len < 2 ^ 31) (e : I a 1 = nI c) (x y : Int32) : x2_tells I a len x y = some (nI (c + 1), up2 (up2 (up2 I (a + 2 + c) 0 x) (a + 2 + c) 1 y) a 1 (nI (c + 1))) := by
  unfold x2_tells
  have e3 : ∀ v, up2 I (a + 2 + c) 0 v a 1 = nI c := fun v => by rw [up2_k (by omega)]; exact e
  have e6 : ∀ v w, up2 (up2 I (a + 2 + c) 0 v) (a + 2 + c) 1 w a 1 = nI c := fun v w => by rw [up2_k (by omega)]; exact e3 v
  rw [e, if_neg (by rw [nI_eq (by omega) hl]; omega), ix_eq hc hl, Option.bind_some, wr_eq (i := 0) (by decide) (by decide), Option.bind_some, e3, ix_eq hc hl, Option.bind_some, wr_eq (i := 1) (by decide) (by decide), Option.bind_some, nm_eq, e6, nI_add, up2_same]
theorem tells_f {a len : Nat} (e : I a 1 = nI len) (x y : Int32) : x2_tells I a len x y = some (-1, I) := by
  unfold x2_tells
  rw [if_pos e]
theorem R1.end0 {a len km k1 lo hi : Nat} : R1 (up2 I a 1 (nI 0)) (up2 μ km 0 (nI 0)) a len km k1 lo hi := ⟨0, Nat.zero_le _, up2_same _ _ _ _, up2_same _ _ _ _, fun i hi => by omega⟩
theorem R2.end0 {a len km k1 k2 lo hi lo2 hi2 : Nat} : R2 (up2 I a 1 (nI 0)) (up2 μ km 0 (nI 0)) a len km k1 k2 lo hi lo2 hi2 := ⟨0, Nat.zero_le _, up2_same _ _ _ _, up2_same _ _ _ _, fun i hi => by omega⟩
theorem R1.told {a len km k1 lo hi c v : Nat} (hc : c < len) (e1 : I a 1 = nI c) (e2 : μ km 0 = nI c) (h : ∀ i, i < c → I (a + 2 + i) 0 = μ k1 i ∧ ∃ v, lo ≤ v ∧ v ≤ hi ∧ μ k1 i = nI v) (hv : lo ≤ v ∧ v ≤ hi) (hk : k1 ≠ km) (y : Int32) : R1 (up2 (up2 (up2 I (a + 2 + c) 0 (nI v)) (a + 2 + c) 1 y) a 1 (nI (c + 1))) (up2 (up2 μ k1 c (nI v)) km 0 (nI (c + 1))) a len km k1 lo hi := by
  refine ⟨c + 1, hc, up2_same _ _ _ _, up2_same _ _ _ _, fun i hi => ?_⟩
  rw [up2_k (by omega), up2_ne (by omega), up2_k hk]
  by_cases e : i = c
  · subst e
    rw [up2_same, up2_same]
    exact ⟨rfl, v, hv.1, hv.2, rfl⟩
  · rw [up2_ne (by omega), up2_ne (by omega)]
    exact h i (by omega)
theorem R2.told {a len km k1 k2 lo hi lo2 hi2 c v w : Nat} (hc : c < len) (e1 : I a 1 = nI c) (e2 : μ km 0 = nI c) (h : ∀ i, i < c → (I (a + 2 + i) 0 = μ k1 i ∧ I (a + 2 + i) 1 = μ k2 i) ∧ (∃ v, lo ≤ v ∧ v ≤ hi ∧ μ k1 i = nI v) ∧ ∃ v, lo2 ≤ v ∧ v ≤ hi2 ∧ μ k2 i = nI v) (hv : lo ≤ v ∧ v ≤ hi) (hw : lo2 ≤ w ∧ w ≤ hi2) (hk : k1 ≠ km) (hk2 : k2 ≠ km) (hk3 : k1 ≠ k2) : R2 (up2 (up2 (up2 I (a + 2 + c) 0 (nI v)) (a + 2 + c) 1 (nI w)) a 1 (nI (c + 1))) (up2 (up2 (up2 μ k1 c (nI v)) k2 c (nI w)) km 0 (nI (c + 1))) a len km k1 k2 lo hi lo2 hi2 := by
  refine ⟨c + 1, hc, up2_same _ _ _ _, up2_same _ _ _ _, fun i hi => ?_⟩
  rw [up2_k (by omega), up2_k hk, up2_k hk2, up2_k hk3]
  by_cases e : i = c
  · subst e
    rw [up2_ne (by omega), up2_same, up2_same, up2_same, up2_same]
    exact ⟨⟨rfl, rfl⟩, ⟨v, hv.1, hv.2, rfl⟩, w, hw.1, hw.2, rfl⟩
  · rw [up2_ne (by omega), up2_ne (by omega), up2_ne (by omega), up2_ne (by omega), up2_ne (by omega), up2_ne (by omega), up2_ne (by omega)]
    exact h i (by omega)
theorem c_piece (R : RR z kd P I μ) (x : Int32) : ok2 (x0_piece I z x) (m_piece μ x) (fun r t => r.1 = t.1 ∧ RR z kd P r.2 t.2) := by
  have R' := R.t0 (nI 0)
  obtain ⟨c, hc, e1, e2, h⟩ := R'.bor.pieces
  have e1 : I (z + 155) 1 = nI c := e1
  unfold x0_piece m_piece x2_ends
  rw [nm_eq, nm_eq, nm_eq, Option.bind_some, isIn_x, isIn_m, Option.bind_some, Option.bind_some]
  generalize hν : up2 μ 0 0 (nI 0) = ν at *
  refine ok2_ii Iff.rfl (fun _ _ => ok2_some ⟨rfl, ?_⟩) (fun _ _ => ?_)
  · have xk : ∀ q, ¬ (q = z + 155) → up2 I (z + 155) 1 (nI 0) q = I q := fun q hq => up2_k hq
    have mk : ∀ k, k ≠ 42 → up2 ν 42 0 (nI 0) k = ν k := fun k hk => up2_k hk
    dsimp only
    exact R'.r8 (fun q hq => xk q (by omega)) (fun k hk => mk k (by omega)) (R1.end0) (R'.bor.doughs.cong (fun c h1 h2 => xk c (by omega)) (by rw [mk 45 (by decide)]) (fun i _ => by rw [mk 46 (by decide)])) (R'.bor.marks.cong (fun c h1 h2 => xk c (by omega)) (by rw [mk 49 (by decide)]) (fun i _ => by rw [mk 50 (by decide)])) (R'.bor.bites.cong (fun c h1 h2 => xk c (by omega)) (by rw [mk 51 (by decide)]) (fun i _ => by rw [mk 52 (by decide)]) (fun i _ => by rw [mk 53 (by decide)])) (R'.bor.crumbs.cong (fun c h1 h2 => xk c (by omega)) (by rw [mk 54 (by decide)]) (fun i _ => by rw [mk 55 (by decide)])) (R'.bor.loaves.cong (fun c h1 h2 => xk c (by omega)) (by rw [mk 57 (by decide)]) (fun i _ => by rw [mk 58 (by decide)]) (fun i _ => by rw [mk 59 (by decide)])) (R'.bor.heirs.cong (fun c h1 h2 => xk c (by omega)) (by rw [mk 62 (by decide)]) (fun i _ => by rw [mk 63 (by decide)])) (R'.bor.members.cong (fun c h1 h2 => xk c (by omega)) (by rw [mk 66 (by decide)]) (fun i _ => by rw [mk 67 (by decide)]) (fun i _ => by rw [mk 68 (by decide)]))
  refine ok2_ii Iff.rfl (fun _ _ => ok2_some ⟨rfl, R'⟩) (fun c1 _ => ?_)
  obtain ⟨v, hv1, hv2, rfl⟩ := in_nI (by decide) (by decide) (of_decide_eq_true (sd_bI c1))
  rw [e2]
  by_cases cf : c = 9
  · subst cf
    rw [tells_f e1, Option.bind_some, if_pos rfl]
    exact ok2_some ⟨rfl, R'⟩
  · have hlt : c < 9 := by omega
    rw [tells_x hlt (by decide) e1, Option.bind_some, if_neg (by rw [nI_eq (by omega) (by decide)]; omega), wr_eq (i := c) hlt (by decide), Option.bind_some, nm_eq, up2_k (show (42 : Nat) ≠ 43 by decide), e2, nI_add]
    refine ok2_some ⟨by dsimp only; rw [up2_same], ?_⟩
    have xk : ∀ q, ¬ (z + 155 ≤ q ∧ q < z + 166) → up2 (up2 (up2 I ((z + 155) + 2 + c) 0 (nI v)) ((z + 155) + 2 + c) 1 (nI 0)) (z + 155) 1 (nI (c + 1)) q = I q := fun q hq => by rw [up2_k (by omega), up2_k (by omega), up2_k (by omega)]
    have mk : ∀ k, k ≠ 42 ∧ k ≠ 43 → up2 (up2 ν 43 c (nI v)) 42 0 (nI (c + 1)) k = ν k := fun k hk => by rw [up2_k hk.1, up2_k hk.2]
    dsimp only
    exact R'.r8 (fun q hq => xk q (by omega)) (fun k hk => mk k (by omega)) (R1.told hlt e1 e2 h ⟨hv1, hv2⟩ (by decide) _) (R'.bor.doughs.cong (fun c h1 h2 => xk c (by omega)) (by rw [mk 45 (by decide)]) (fun i _ => by rw [mk 46 (by decide)])) (R'.bor.marks.cong (fun c h1 h2 => xk c (by omega)) (by rw [mk 49 (by decide)]) (fun i _ => by rw [mk 50 (by decide)])) (R'.bor.bites.cong (fun c h1 h2 => xk c (by omega)) (by rw [mk 51 (by decide)]) (fun i _ => by rw [mk 52 (by decide)]) (fun i _ => by rw [mk 53 (by decide)])) (R'.bor.crumbs.cong (fun c h1 h2 => xk c (by omega)) (by rw [mk 54 (by decide)]) (fun i _ => by rw [mk 55 (by decide)])) (R'.bor.loaves.cong (fun c h1 h2 => xk c (by omega)) (by rw [mk 57 (by decide)]) (fun i _ => by rw [mk 58 (by decide)]) (fun i _ => by rw [mk 59 (by decide)])) (R'.bor.heirs.cong (fun c h1 h2 => xk c (by omega)) (by rw [mk 62 (by decide)]) (fun i _ => by rw [mk 63 (by decide)])) (R'.bor.members.cong (fun c h1 h2 => xk c (by omega)) (by rw [mk 66 (by decide)]) (fun i _ => by rw [mk 67 (by decide)]) (fun i _ => by rw [mk 68 (by decide)]))
theorem c_dough (R : RR z kd P I μ) (x : Int32) : ok2 (x0_dough I z x) (m_dough μ x) (fun r t => r.1 = t.1 ∧ RR z kd P r.2 t.2) := by
  have R' := R.t0 (nI 0)
  obtain ⟨c, hc, e1, e2, h⟩ := R'.bor.doughs
  have e1 : I (z + 166) 1 = nI c := e1
  unfold x0_dough m_dough x2_ends
  rw [nm_eq, nm_eq, nm_eq, Option.bind_some, isIn_x, isIn_m, Option.bind_some, Option.bind_some]
  generalize hν : up2 μ 0 0 (nI 0) = ν at *
  refine ok2_ii Iff.rfl (fun _ _ => ok2_some ⟨rfl, ?_⟩) (fun _ _ => ?_)
  · have xk : ∀ q, ¬ (q = z + 166) → up2 I (z + 166) 1 (nI 0) q = I q := fun q hq => up2_k hq
    have mk : ∀ k, k ≠ 45 → up2 ν 45 0 (nI 0) k = ν k := fun k hk => up2_k hk
    dsimp only
    exact R'.r8 (fun q hq => xk q (by omega)) (fun k hk => mk k (by omega)) (R'.bor.pieces.cong (fun c h1 h2 => xk c (by omega)) (by rw [mk 42 (by decide)]) (fun i _ => by rw [mk 43 (by decide)])) (R1.end0) (R'.bor.marks.cong (fun c h1 h2 => xk c (by omega)) (by rw [mk 49 (by decide)]) (fun i _ => by rw [mk 50 (by decide)])) (R'.bor.bites.cong (fun c h1 h2 => xk c (by omega)) (by rw [mk 51 (by decide)]) (fun i _ => by rw [mk 52 (by decide)]) (fun i _ => by rw [mk 53 (by decide)])) (R'.bor.crumbs.cong (fun c h1 h2 => xk c (by omega)) (by rw [mk 54 (by decide)]) (fun i _ => by rw [mk 55 (by decide)])) (R'.bor.loaves.cong (fun c h1 h2 => xk c (by omega)) (by rw [mk 57 (by decide)]) (fun i _ => by rw [mk 58 (by decide)]) (fun i _ => by rw [mk 59 (by decide)])) (R'.bor.heirs.cong (fun c h1 h2 => xk c (by omega)) (by rw [mk 62 (by decide)]) (fun i _ => by rw [mk 63 (by decide)])) (R'.bor.members.cong (fun c h1 h2 => xk c (by omega)) (by rw [mk 66 (by decide)]) (fun i _ => by rw [mk 67 (by decide)]) (fun i _ => by rw [mk 68 (by decide)]))
  refine ok2_ii Iff.rfl (fun _ _ => ok2_some ⟨rfl, R'⟩) (fun c1 _ => ?_)
  obtain ⟨v, hv1, hv2, rfl⟩ := in_nI (by decide) (by decide) (of_decide_eq_true (sd_bI c1))
  rw [e2]
  by_cases cf : c = 8
  · subst cf
    rw [tells_f e1, Option.bind_some, if_pos rfl]
    exact ok2_some ⟨rfl, R'⟩
  · have hlt : c < 8 := by omega
    rw [tells_x hlt (by decide) e1, Option.bind_some, if_neg (by rw [nI_eq (by omega) (by decide)]; omega), wr_eq (i := c) hlt (by decide), Option.bind_some, nm_eq, up2_k (show (45 : Nat) ≠ 46 by decide), e2, nI_add]
    refine ok2_some ⟨by dsimp only; rw [up2_same], ?_⟩
    have xk : ∀ q, ¬ (z + 166 ≤ q ∧ q < z + 176) → up2 (up2 (up2 I ((z + 166) + 2 + c) 0 (nI v)) ((z + 166) + 2 + c) 1 (nI 0)) (z + 166) 1 (nI (c + 1)) q = I q := fun q hq => by rw [up2_k (by omega), up2_k (by omega), up2_k (by omega)]
    have mk : ∀ k, k ≠ 45 ∧ k ≠ 46 → up2 (up2 ν 46 c (nI v)) 45 0 (nI (c + 1)) k = ν k := fun k hk => by rw [up2_k hk.1, up2_k hk.2]
    dsimp only
    exact R'.r8 (fun q hq => xk q (by omega)) (fun k hk => mk k (by omega)) (R'.bor.pieces.cong (fun c h1 h2 => xk c (by omega)) (by rw [mk 42 (by decide)]) (fun i _ => by rw [mk 43 (by decide)])) (R1.told hlt e1 e2 h ⟨hv1, hv2⟩ (by decide) _) (R'.bor.marks.cong (fun c h1 h2 => xk c (by omega)) (by rw [mk 49 (by decide)]) (fun i _ => by rw [mk 50 (by decide)])) (R'.bor.bites.cong (fun c h1 h2 => xk c (by omega)) (by rw [mk 51 (by decide)]) (fun i _ => by rw [mk 52 (by decide)]) (fun i _ => by rw [mk 53 (by decide)])) (R'.bor.crumbs.cong (fun c h1 h2 => xk c (by omega)) (by rw [mk 54 (by decide)]) (fun i _ => by rw [mk 55 (by decide)])) (R'.bor.loaves.cong (fun c h1 h2 => xk c (by omega)) (by rw [mk 57 (by decide)]) (fun i _ => by rw [mk 58 (by decide)]) (fun i _ => by rw [mk 59 (by decide)])) (R'.bor.heirs.cong (fun c h1 h2 => xk c (by omega)) (by rw [mk 62 (by decide)]) (fun i _ => by rw [mk 63 (by decide)])) (R'.bor.members.cong (fun c h1 h2 => xk c (by omega)) (by rw [mk 66 (by decide)]) (fun i _ => by rw [mk 67 (by decide)]) (fun i _ => by rw [mk 68 (by decide)]))
theorem c_mark (R : RR z kd P I μ) (x : Int32) : ok2 (x0_mark I z x) (m_mark μ x) (fun r t => r.1 = t.1 ∧ RR z kd P r.2 t.2) := by
  have R' := R.t0 (nI 0)
  obtain ⟨c, hc, e1, e2, h⟩ := R'.bor.marks
  have e1 : I (z + 176) 1 = nI c := e1
  unfold x0_mark m_mark x2_ends
  rw [nm_eq, nm_eq, nm_eq, Option.bind_some, isIn_x, isIn_m, Option.bind_some, Option.bind_some]
  generalize hν : up2 μ 0 0 (nI 0) = ν at *
  refine ok2_ii Iff.rfl (fun _ _ => ok2_some ⟨rfl, ?_⟩) (fun _ _ => ?_)
  · have xk : ∀ q, ¬ (q = z + 176) → up2 I (z + 176) 1 (nI 0) q = I q := fun q hq => up2_k hq
    have mk : ∀ k, k ≠ 49 → up2 ν 49 0 (nI 0) k = ν k := fun k hk => up2_k hk
    dsimp only
    exact R'.r8 (fun q hq => xk q (by omega)) (fun k hk => mk k (by omega)) (R'.bor.pieces.cong (fun c h1 h2 => xk c (by omega)) (by rw [mk 42 (by decide)]) (fun i _ => by rw [mk 43 (by decide)])) (R'.bor.doughs.cong (fun c h1 h2 => xk c (by omega)) (by rw [mk 45 (by decide)]) (fun i _ => by rw [mk 46 (by decide)])) (R1.end0) (R'.bor.bites.cong (fun c h1 h2 => xk c (by omega)) (by rw [mk 51 (by decide)]) (fun i _ => by rw [mk 52 (by decide)]) (fun i _ => by rw [mk 53 (by decide)])) (R'.bor.crumbs.cong (fun c h1 h2 => xk c (by omega)) (by rw [mk 54 (by decide)]) (fun i _ => by rw [mk 55 (by decide)])) (R'.bor.loaves.cong (fun c h1 h2 => xk c (by omega)) (by rw [mk 57 (by decide)]) (fun i _ => by rw [mk 58 (by decide)]) (fun i _ => by rw [mk 59 (by decide)])) (R'.bor.heirs.cong (fun c h1 h2 => xk c (by omega)) (by rw [mk 62 (by decide)]) (fun i _ => by rw [mk 63 (by decide)])) (R'.bor.members.cong (fun c h1 h2 => xk c (by omega)) (by rw [mk 66 (by decide)]) (fun i _ => by rw [mk 67 (by decide)]) (fun i _ => by rw [mk 68 (by decide)]))
  refine ok2_ii Iff.rfl (fun _ _ => ok2_some ⟨rfl, R'⟩) (fun c1 _ => ?_)
  obtain ⟨v, hv1, hv2, rfl⟩ := in_nI (by decide) (by decide) (of_decide_eq_true (sd_bI c1))
  rw [e2]
  by_cases cf : c = 5
  · subst cf
    rw [tells_f e1, Option.bind_some, if_pos rfl]
    exact ok2_some ⟨rfl, R'⟩
  · have hlt : c < 5 := by omega
    rw [tells_x hlt (by decide) e1, Option.bind_some, if_neg (by rw [nI_eq (by omega) (by decide)]; omega), wr_eq (i := c) hlt (by decide), Option.bind_some, nm_eq, up2_k (show (49 : Nat) ≠ 50 by decide), e2, nI_add]
    refine ok2_some ⟨by dsimp only; rw [up2_same], ?_⟩
    have xk : ∀ q, ¬ (z + 176 ≤ q ∧ q < z + 183) → up2 (up2 (up2 I ((z + 176) + 2 + c) 0 (nI v)) ((z + 176) + 2 + c) 1 (nI 0)) (z + 176) 1 (nI (c + 1)) q = I q := fun q hq => by rw [up2_k (by omega), up2_k (by omega), up2_k (by omega)]
    have mk : ∀ k, k ≠ 49 ∧ k ≠ 50 → up2 (up2 ν 50 c (nI v)) 49 0 (nI (c + 1)) k = ν k := fun k hk => by rw [up2_k hk.1, up2_k hk.2]
    dsimp only
    exact R'.r8 (fun q hq => xk q (by omega)) (fun k hk => mk k (by omega)) (R'.bor.pieces.cong (fun c h1 h2 => xk c (by omega)) (by rw [mk 42 (by decide)]) (fun i _ => by rw [mk 43 (by decide)])) (R'.bor.doughs.cong (fun c h1 h2 => xk c (by omega)) (by rw [mk 45 (by decide)]) (fun i _ => by rw [mk 46 (by decide)])) (R1.told hlt e1 e2 h ⟨hv1, hv2⟩ (by decide) _) (R'.bor.bites.cong (fun c h1 h2 => xk c (by omega)) (by rw [mk 51 (by decide)]) (fun i _ => by rw [mk 52 (by decide)]) (fun i _ => by rw [mk 53 (by decide)])) (R'.bor.crumbs.cong (fun c h1 h2 => xk c (by omega)) (by rw [mk 54 (by decide)]) (fun i _ => by rw [mk 55 (by decide)])) (R'.bor.loaves.cong (fun c h1 h2 => xk c (by omega)) (by rw [mk 57 (by decide)]) (fun i _ => by rw [mk 58 (by decide)]) (fun i _ => by rw [mk 59 (by decide)])) (R'.bor.heirs.cong (fun c h1 h2 => xk c (by omega)) (by rw [mk 62 (by decide)]) (fun i _ => by rw [mk 63 (by decide)])) (R'.bor.members.cong (fun c h1 h2 => xk c (by omega)) (by rw [mk 66 (by decide)]) (fun i _ => by rw [mk 67 (by decide)]) (fun i _ => by rw [mk 68 (by decide)]))
theorem c_crumb (R : RR z kd P I μ) (x : Int32) : ok2 (x0_crumb I z x) (m_crumb μ x) (fun r t => r.1 = t.1 ∧ RR z kd P r.2 t.2) := by
  have R' := R.t0 (nI 0)
  obtain ⟨c, hc, e1, e2, h⟩ := R'.bor.crumbs
  have e1 : I (z + 193) 1 = nI c := e1
  unfold x0_crumb m_crumb x2_ends
  rw [nm_eq, nm_eq, nm_eq, Option.bind_some, isIn_x, isIn_m, Option.bind_some, Option.bind_some]
  generalize hν : up2 μ 0 0 (nI 0) = ν at *
  refine ok2_ii Iff.rfl (fun _ _ => ok2_some ⟨rfl, ?_⟩) (fun _ _ => ?_)
  · have xk : ∀ q, ¬ (q = z + 193) → up2 I (z + 193) 1 (nI 0) q = I q := fun q hq => up2_k hq
    have mk : ∀ k, k ≠ 54 → up2 ν 54 0 (nI 0) k = ν k := fun k hk => up2_k hk
    dsimp only
    exact R'.r8 (fun q hq => xk q (by omega)) (fun k hk => mk k (by omega)) (R'.bor.pieces.cong (fun c h1 h2 => xk c (by omega)) (by rw [mk 42 (by decide)]) (fun i _ => by rw [mk 43 (by decide)])) (R'.bor.doughs.cong (fun c h1 h2 => xk c (by omega)) (by rw [mk 45 (by decide)]) (fun i _ => by rw [mk 46 (by decide)])) (R'.bor.marks.cong (fun c h1 h2 => xk c (by omega)) (by rw [mk 49 (by decide)]) (fun i _ => by rw [mk 50 (by decide)])) (R'.bor.bites.cong (fun c h1 h2 => xk c (by omega)) (by rw [mk 51 (by decide)]) (fun i _ => by rw [mk 52 (by decide)]) (fun i _ => by rw [mk 53 (by decide)])) (R1.end0) (R'.bor.loaves.cong (fun c h1 h2 => xk c (by omega)) (by rw [mk 57 (by decide)]) (fun i _ => by rw [mk 58 (by decide)]) (fun i _ => by rw [mk 59 (by decide)])) (R'.bor.heirs.cong (fun c h1 h2 => xk c (by omega)) (by rw [mk 62 (by decide)]) (fun i _ => by rw [mk 63 (by decide)])) (R'.bor.members.cong (fun c h1 h2 => xk c (by omega)) (by rw [mk 66 (by decide)]) (fun i _ => by rw [mk 67 (by decide)]) (fun i _ => by rw [mk 68 (by decide)]))
  refine ok2_ii Iff.rfl (fun _ _ => ok2_some ⟨rfl, R'⟩) (fun c1 _ => ?_)
  obtain ⟨v, hv1, hv2, rfl⟩ := in_nI (by decide) (by decide) (of_decide_eq_true (sd_bI c1))
  rw [e2]
  by_cases cf : c = 16
  · subst cf
    rw [tells_f e1, Option.bind_some, if_pos rfl]
    exact ok2_some ⟨rfl, R'⟩
  · have hlt : c < 16 := by omega
    rw [tells_x hlt (by decide) e1, Option.bind_some, if_neg (by rw [nI_eq (by omega) (by decide)]; omega), wr_eq (i := c) hlt (by decide), Option.bind_some, nm_eq, up2_k (show (54 : Nat) ≠ 55 by decide), e2, nI_add]
    refine ok2_some ⟨by dsimp only; rw [up2_same], ?_⟩
    have xk : ∀ q, ¬ (z + 193 ≤ q ∧ q < z + 211) → up2 (up2 (up2 I ((z + 193) + 2 + c) 0 (nI v)) ((z + 193) + 2 + c) 1 (nI 0)) (z + 193) 1 (nI (c + 1)) q = I q := fun q hq => by rw [up2_k (by omega), up2_k (by omega), up2_k (by omega)]
    have mk : ∀ k, k ≠ 54 ∧ k ≠ 55 → up2 (up2 ν 55 c (nI v)) 54 0 (nI (c + 1)) k = ν k := fun k hk => by rw [up2_k hk.1, up2_k hk.2]
    dsimp only
    exact R'.r8 (fun q hq => xk q (by omega)) (fun k hk => mk k (by omega)) (R'.bor.pieces.cong (fun c h1 h2 => xk c (by omega)) (by rw [mk 42 (by decide)]) (fun i _ => by rw [mk 43 (by decide)])) (R'.bor.doughs.cong (fun c h1 h2 => xk c (by omega)) (by rw [mk 45 (by decide)]) (fun i _ => by rw [mk 46 (by decide)])) (R'.bor.marks.cong (fun c h1 h2 => xk c (by omega)) (by rw [mk 49 (by decide)]) (fun i _ => by rw [mk 50 (by decide)])) (R'.bor.bites.cong (fun c h1 h2 => xk c (by omega)) (by rw [mk 51 (by decide)]) (fun i _ => by rw [mk 52 (by decide)]) (fun i _ => by rw [mk 53 (by decide)])) (R1.told hlt e1 e2 h ⟨hv1, hv2⟩ (by decide) _) (R'.bor.loaves.cong (fun c h1 h2 => xk c (by omega)) (by rw [mk 57 (by decide)]) (fun i _ => by rw [mk 58 (by decide)]) (fun i _ => by rw [mk 59 (by decide)])) (R'.bor.heirs.cong (fun c h1 h2 => xk c (by omega)) (by rw [mk 62 (by decide)]) (fun i _ => by rw [mk 63 (by decide)])) (R'.bor.members.cong (fun c h1 h2 => xk c (by omega)) (by rw [mk 66 (by decide)]) (fun i _ => by rw [mk 67 (by decide)]) (fun i _ => by rw [mk 68 (by decide)]))
theorem c_bite (R : RR z kd P I μ) (x y : Int32) : ok2 (x0_bite I z x y) (m_bite μ x y) (fun r t => r.1 = t.1 ∧ RR z kd P r.2 t.2) := by
  have R' := R.t0 (nI 0)
  obtain ⟨c, hc, e1, e2, h⟩ := R'.bor.bites
  have e1 : I (z + 183) 1 = nI c := e1
  unfold x0_bite m_bite x2_ends x0_isBite
  rw [nm_eq, nm_eq, nm_eq, Option.bind_some, isIn_x, isIn_m, isIn_x, isIn_m, Option.bind_some, Option.bind_some, Option.bind_some, Option.bind_some]
  generalize hν : up2 μ 0 0 (nI 0) = ν at *
  refine ok2_ii Iff.rfl (fun _ _ => ok2_some ⟨rfl, ?_⟩) (fun _ _ => ?_)
  · have xk : ∀ q, ¬ (q = z + 183) → up2 I (z + 183) 1 (nI 0) q = I q := fun q hq => up2_k hq
    have mk : ∀ k, k ≠ 51 → up2 ν 51 0 (nI 0) k = ν k := fun k hk => up2_k hk
    dsimp only
    exact R'.r8 (fun q hq => xk q (by omega)) (fun k hk => mk k (by omega)) (R'.bor.pieces.cong (fun c h1 h2 => xk c (by omega)) (by rw [mk 42 (by decide)]) (fun i _ => by rw [mk 43 (by decide)])) (R'.bor.doughs.cong (fun c h1 h2 => xk c (by omega)) (by rw [mk 45 (by decide)]) (fun i _ => by rw [mk 46 (by decide)])) (R'.bor.marks.cong (fun c h1 h2 => xk c (by omega)) (by rw [mk 49 (by decide)]) (fun i _ => by rw [mk 50 (by decide)])) (R2.end0) (R'.bor.crumbs.cong (fun c h1 h2 => xk c (by omega)) (by rw [mk 54 (by decide)]) (fun i _ => by rw [mk 55 (by decide)])) (R'.bor.loaves.cong (fun c h1 h2 => xk c (by omega)) (by rw [mk 57 (by decide)]) (fun i _ => by rw [mk 58 (by decide)]) (fun i _ => by rw [mk 59 (by decide)])) (R'.bor.heirs.cong (fun c h1 h2 => xk c (by omega)) (by rw [mk 62 (by decide)]) (fun i _ => by rw [mk 63 (by decide)])) (R'.bor.members.cong (fun c h1 h2 => xk c (by omega)) (by rw [mk 66 (by decide)]) (fun i _ => by rw [mk 67 (by decide)]) (fun i _ => by rw [mk 68 (by decide)]))
  by_cases c1 : nI 0 ≤ x ∧ x ≤ nI 255
  · rw [decide_eq_true c1, if_neg bT, if_neg bT]
    by_cases c2 : nI 0 ≤ y ∧ y ≤ nI 9
    · rw [decide_eq_true c2, if_neg bT, if_neg bT, Option.bind_some, if_neg bT]
      obtain ⟨v, hv1, hv2, rfl⟩ := in_nI (by decide) (by decide) c1
      obtain ⟨w, hw1, hw2, rfl⟩ := in_nI (by decide) (by decide) c2
      rw [e2]
      by_cases cf : c = 8
      · subst cf
        rw [tells_f e1, Option.bind_some, if_pos rfl]
        exact ok2_some ⟨rfl, R'⟩
      · have hlt : c < 8 := by omega
        rw [tells_x hlt (by decide) e1, Option.bind_some, if_neg (by rw [nI_eq (by omega) (by decide)]; omega), wr_eq (i := c) hlt (by decide), Option.bind_some, up2_k (show (51 : Nat) ≠ 52 by decide), e2, wr_eq (i := c) hlt (by decide), Option.bind_some, nm_eq, up2_k (show (51 : Nat) ≠ 53 by decide), up2_k (show (51 : Nat) ≠ 52 by decide), e2, nI_add]
        refine ok2_some ⟨by dsimp only; rw [up2_same], ?_⟩
        have xk : ∀ q, ¬ (z + 183 ≤ q ∧ q < z + 193) → up2 (up2 (up2 I ((z + 183) + 2 + c) 0 (nI v)) ((z + 183) + 2 + c) 1 (nI w)) (z + 183) 1 (nI (c + 1)) q = I q := fun q hq => by rw [up2_k (by omega), up2_k (by omega), up2_k (by omega)]
        have mk : ∀ k, k ≠ 51 ∧ k ≠ 52 ∧ k ≠ 53 → up2 (up2 (up2 ν 52 c (nI v)) 53 c (nI w)) 51 0 (nI (c + 1)) k = ν k := fun k hk => by rw [up2_k hk.1, up2_k hk.2.2, up2_k hk.2.1]
        dsimp only
        exact R'.r8 (fun q hq => xk q (by omega)) (fun k hk => mk k (by omega)) (R'.bor.pieces.cong (fun c h1 h2 => xk c (by omega)) (by rw [mk 42 (by decide)]) (fun i _ => by rw [mk 43 (by decide)])) (R'.bor.doughs.cong (fun c h1 h2 => xk c (by omega)) (by rw [mk 45 (by decide)]) (fun i _ => by rw [mk 46 (by decide)])) (R'.bor.marks.cong (fun c h1 h2 => xk c (by omega)) (by rw [mk 49 (by decide)]) (fun i _ => by rw [mk 50 (by decide)])) (R2.told hlt e1 e2 h ⟨hv1, hv2⟩ ⟨hw1, hw2⟩ (by decide) (by decide) (by decide)) (R'.bor.crumbs.cong (fun c h1 h2 => xk c (by omega)) (by rw [mk 54 (by decide)]) (fun i _ => by rw [mk 55 (by decide)])) (R'.bor.loaves.cong (fun c h1 h2 => xk c (by omega)) (by rw [mk 57 (by decide)]) (fun i _ => by rw [mk 58 (by decide)]) (fun i _ => by rw [mk 59 (by decide)])) (R'.bor.heirs.cong (fun c h1 h2 => xk c (by omega)) (by rw [mk 62 (by decide)]) (fun i _ => by rw [mk 63 (by decide)])) (R'.bor.members.cong (fun c h1 h2 => xk c (by omega)) (by rw [mk 66 (by decide)]) (fun i _ => by rw [mk 67 (by decide)]) (fun i _ => by rw [mk 68 (by decide)]))
    · rw [decide_eq_false c2, if_pos bF, if_pos bF, Option.bind_some, if_pos bF]
      exact ok2_some ⟨rfl, R'⟩
  · rw [decide_eq_false c1, if_pos bF, if_pos bF, Option.bind_some, if_pos bF]
    exact ok2_some ⟨rfl, R'⟩
theorem c_loaf (R : RR z kd P I μ) (x y : Int32) : ok2 (x0_loaf I z x y) (m_loaf μ x y) (fun r t => r.1 = t.1 ∧ RR z kd P r.2 t.2) := by
  have R' := R.t0 (nI 0)
  obtain ⟨c, hc, e1, e2, h⟩ := R'.bor.loaves
  have e1 : I (z + 211) 1 = nI c := e1
  unfold x0_loaf m_loaf x2_ends
  rw [nm_eq, nm_eq, nm_eq, Option.bind_some, isIn_x, isIn_m, isIn_x, isIn_m, Option.bind_some, Option.bind_some, Option.bind_some, Option.bind_some]
  generalize hν : up2 μ 0 0 (nI 0) = ν at *
  refine ok2_ii Iff.rfl (fun _ _ => ok2_some ⟨rfl, ?_⟩) (fun _ _ => ?_)
  · have xk : ∀ q, ¬ (q = z + 211) → up2 I (z + 211) 1 (nI 0) q = I q := fun q hq => up2_k hq
    have mk : ∀ k, k ≠ 57 → up2 ν 57 0 (nI 0) k = ν k := fun k hk => up2_k hk
    dsimp only
    exact R'.r8 (fun q hq => xk q (by omega)) (fun k hk => mk k (by omega)) (R'.bor.pieces.cong (fun c h1 h2 => xk c (by omega)) (by rw [mk 42 (by decide)]) (fun i _ => by rw [mk 43 (by decide)])) (R'.bor.doughs.cong (fun c h1 h2 => xk c (by omega)) (by rw [mk 45 (by decide)]) (fun i _ => by rw [mk 46 (by decide)])) (R'.bor.marks.cong (fun c h1 h2 => xk c (by omega)) (by rw [mk 49 (by decide)]) (fun i _ => by rw [mk 50 (by decide)])) (R'.bor.bites.cong (fun c h1 h2 => xk c (by omega)) (by rw [mk 51 (by decide)]) (fun i _ => by rw [mk 52 (by decide)]) (fun i _ => by rw [mk 53 (by decide)])) (R'.bor.crumbs.cong (fun c h1 h2 => xk c (by omega)) (by rw [mk 54 (by decide)]) (fun i _ => by rw [mk 55 (by decide)])) (R2.end0) (R'.bor.heirs.cong (fun c h1 h2 => xk c (by omega)) (by rw [mk 62 (by decide)]) (fun i _ => by rw [mk 63 (by decide)])) (R'.bor.members.cong (fun c h1 h2 => xk c (by omega)) (by rw [mk 66 (by decide)]) (fun i _ => by rw [mk 67 (by decide)]) (fun i _ => by rw [mk 68 (by decide)]))
  by_cases c1 : nI 1 ≤ x ∧ x ≤ nI 30
  · rw [decide_eq_true c1, if_neg bT, if_neg bT]
    by_cases c2 : nI 1 ≤ y ∧ y ≤ nI 30
    · rw [decide_eq_true c2, if_neg bT, if_neg bT]
      obtain ⟨v, hv1, hv2, rfl⟩ := in_nI (by decide) (by decide) c1
      obtain ⟨w, hw1, hw2, rfl⟩ := in_nI (by decide) (by decide) c2
      rw [e2]
      by_cases cf : c = 6
      · subst cf
        rw [tells_f e1, Option.bind_some, if_pos rfl]
        exact ok2_some ⟨rfl, R'⟩
      · have hlt : c < 6 := by omega
        rw [tells_x hlt (by decide) e1, Option.bind_some, if_neg (by rw [nI_eq (by omega) (by decide)]; omega), wr_eq (i := c) hlt (by decide), Option.bind_some, up2_k (show (57 : Nat) ≠ 58 by decide), e2, wr_eq (i := c) hlt (by decide), Option.bind_some, nm_eq, up2_k (show (57 : Nat) ≠ 59 by decide), up2_k (show (57 : Nat) ≠ 58 by decide), e2, nI_add]
        refine ok2_some ⟨by dsimp only; rw [up2_same], ?_⟩
        have xk : ∀ q, ¬ (z + 211 ≤ q ∧ q < z + 219) → up2 (up2 (up2 I ((z + 211) + 2 + c) 0 (nI v)) ((z + 211) + 2 + c) 1 (nI w)) (z + 211) 1 (nI (c + 1)) q = I q := fun q hq => by rw [up2_k (by omega), up2_k (by omega), up2_k (by omega)]
        have mk : ∀ k, k ≠ 57 ∧ k ≠ 58 ∧ k ≠ 59 → up2 (up2 (up2 ν 58 c (nI v)) 59 c (nI w)) 57 0 (nI (c + 1)) k = ν k := fun k hk => by rw [up2_k hk.1, up2_k hk.2.2, up2_k hk.2.1]
        dsimp only
        exact R'.r8 (fun q hq => xk q (by omega)) (fun k hk => mk k (by omega)) (R'.bor.pieces.cong (fun c h1 h2 => xk c (by omega)) (by rw [mk 42 (by decide)]) (fun i _ => by rw [mk 43 (by decide)])) (R'.bor.doughs.cong (fun c h1 h2 => xk c (by omega)) (by rw [mk 45 (by decide)]) (fun i _ => by rw [mk 46 (by decide)])) (R'.bor.marks.cong (fun c h1 h2 => xk c (by omega)) (by rw [mk 49 (by decide)]) (fun i _ => by rw [mk 50 (by decide)])) (R'.bor.bites.cong (fun c h1 h2 => xk c (by omega)) (by rw [mk 51 (by decide)]) (fun i _ => by rw [mk 52 (by decide)]) (fun i _ => by rw [mk 53 (by decide)])) (R'.bor.crumbs.cong (fun c h1 h2 => xk c (by omega)) (by rw [mk 54 (by decide)]) (fun i _ => by rw [mk 55 (by decide)])) (R2.told hlt e1 e2 h ⟨hv1, hv2⟩ ⟨hw1, hw2⟩ (by decide) (by decide) (by decide)) (R'.bor.heirs.cong (fun c h1 h2 => xk c (by omega)) (by rw [mk 62 (by decide)]) (fun i _ => by rw [mk 63 (by decide)])) (R'.bor.members.cong (fun c h1 h2 => xk c (by omega)) (by rw [mk 66 (by decide)]) (fun i _ => by rw [mk 67 (by decide)]) (fun i _ => by rw [mk 68 (by decide)]))
    · rw [decide_eq_false c2, if_pos bF, if_pos bF]
      exact ok2_some ⟨rfl, R'⟩
  · rw [decide_eq_false c1, if_pos bF, if_pos bF]
    exact ok2_some ⟨rfl, R'⟩
theorem c_member (R : RR z kd P I μ) (x y : Int32) : ok2 (x0_member I z x y) (m_member μ x y) (fun r t => r.1 = t.1 ∧ RR z kd P r.2 t.2) := by
  have R' := R.t0 (nI 0)
  obtain ⟨c, hc, e1, e2, h⟩ := R'.bor.members
  have e1 : I (z + 233) 1 = nI c := e1
  unfold x0_member m_member x2_ends
  rw [nm_eq, nm_eq, nm_eq, Option.bind_some, isIn_x, isIn_m, isIn_x, isIn_m, Option.bind_some, Option.bind_some, Option.bind_some, Option.bind_some]
  generalize hν : up2 μ 0 0 (nI 0) = ν at *
  refine ok2_ii Iff.rfl (fun _ _ => ok2_some ⟨rfl, ?_⟩) (fun _ _ => ?_)
  · have xk : ∀ q, ¬ (q = z + 233) → up2 I (z + 233) 1 (nI 0) q = I q := fun q hq => up2_k hq
    have mk : ∀ k, k ≠ 66 → up2 ν 66 0 (nI 0) k = ν k := fun k hk => up2_k hk
    dsimp only
    exact R'.r8 (fun q hq => xk q (by omega)) (fun k hk => mk k (by omega)) (R'.bor.pieces.cong (fun c h1 h2 => xk c (by omega)) (by rw [mk 42 (by decide)]) (fun i _ => by rw [mk 43 (by decide)])) (R'.bor.doughs.cong (fun c h1 h2 => xk c (by omega)) (by rw [mk 45 (by decide)]) (fun i _ => by rw [mk 46 (by decide)])) (R'.bor.marks.cong (fun c h1 h2 => xk c (by omega)) (by rw [mk 49 (by decide)]) (fun i _ => by rw [mk 50 (by decide)])) (R'.bor.bites.cong (fun c h1 h2 => xk c (by omega)) (by rw [mk 51 (by decide)]) (fun i _ => by rw [mk 52 (by decide)]) (fun i _ => by rw [mk 53 (by decide)])) (R'.bor.crumbs.cong (fun c h1 h2 => xk c (by omega)) (by rw [mk 54 (by decide)]) (fun i _ => by rw [mk 55 (by decide)])) (R'.bor.loaves.cong (fun c h1 h2 => xk c (by omega)) (by rw [mk 57 (by decide)]) (fun i _ => by rw [mk 58 (by decide)]) (fun i _ => by rw [mk 59 (by decide)])) (R'.bor.heirs.cong (fun c h1 h2 => xk c (by omega)) (by rw [mk 62 (by decide)]) (fun i _ => by rw [mk 63 (by decide)])) (R2.end0)
  by_cases c1 : nI 0 ≤ x ∧ x ≤ nI 4095
  · rw [decide_eq_true c1, if_neg bT, if_neg bT]
    by_cases c2 : nI 1 ≤ y ∧ y ≤ nI 9
    · rw [decide_eq_true c2, if_neg bT, if_neg bT]
      obtain ⟨v, hv1, hv2, rfl⟩ := in_nI (by decide) (by decide) c1
      obtain ⟨w, hw1, hw2, rfl⟩ := in_nI (by decide) (by decide) c2
      rw [e2]
      by_cases cf : c = 8
      · subst cf
        rw [tells_f e1, Option.bind_some, if_pos rfl]
        exact ok2_some ⟨rfl, R'⟩
      · have hlt : c < 8 := by omega
        rw [tells_x hlt (by decide) e1, Option.bind_some, if_neg (by rw [nI_eq (by omega) (by decide)]; omega), wr_eq (i := c) hlt (by decide), Option.bind_some, up2_k (show (66 : Nat) ≠ 67 by decide), e2, wr_eq (i := c) hlt (by decide), Option.bind_some, nm_eq, up2_k (show (66 : Nat) ≠ 68 by decide), up2_k (show (66 : Nat) ≠ 67 by decide), e2, nI_add]
        refine ok2_some ⟨by dsimp only; rw [up2_same], ?_⟩
        have xk : ∀ q, ¬ (z + 233 ≤ q ∧ q < z + 243) → up2 (up2 (up2 I ((z + 233) + 2 + c) 0 (nI v)) ((z + 233) + 2 + c) 1 (nI w)) (z + 233) 1 (nI (c + 1)) q = I q := fun q hq => by rw [up2_k (by omega), up2_k (by omega), up2_k (by omega)]
        have mk : ∀ k, k ≠ 66 ∧ k ≠ 67 ∧ k ≠ 68 → up2 (up2 (up2 ν 67 c (nI v)) 68 c (nI w)) 66 0 (nI (c + 1)) k = ν k := fun k hk => by rw [up2_k hk.1, up2_k hk.2.2, up2_k hk.2.1]
        dsimp only
        exact R'.r8 (fun q hq => xk q (by omega)) (fun k hk => mk k (by omega)) (R'.bor.pieces.cong (fun c h1 h2 => xk c (by omega)) (by rw [mk 42 (by decide)]) (fun i _ => by rw [mk 43 (by decide)])) (R'.bor.doughs.cong (fun c h1 h2 => xk c (by omega)) (by rw [mk 45 (by decide)]) (fun i _ => by rw [mk 46 (by decide)])) (R'.bor.marks.cong (fun c h1 h2 => xk c (by omega)) (by rw [mk 49 (by decide)]) (fun i _ => by rw [mk 50 (by decide)])) (R'.bor.bites.cong (fun c h1 h2 => xk c (by omega)) (by rw [mk 51 (by decide)]) (fun i _ => by rw [mk 52 (by decide)]) (fun i _ => by rw [mk 53 (by decide)])) (R'.bor.crumbs.cong (fun c h1 h2 => xk c (by omega)) (by rw [mk 54 (by decide)]) (fun i _ => by rw [mk 55 (by decide)])) (R'.bor.loaves.cong (fun c h1 h2 => xk c (by omega)) (by rw [mk 57 (by decide)]) (fun i _ => by rw [mk 58 (by decide)]) (fun i _ => by rw [mk 59 (by decide)])) (R'.bor.heirs.cong (fun c h1 h2 => xk c (by omega)) (by rw [mk 62 (by decide)]) (fun i _ => by rw [mk 63 (by decide)])) (R2.told hlt e1 e2 h ⟨hv1, hv2⟩ ⟨hw1, hw2⟩ (by decide) (by decide) (by decide))
    · rw [decide_eq_false c2, if_pos bF, if_pos bF]
      exact ok2_some ⟨rfl, R'⟩
  · rw [decide_eq_false c1, if_pos bF, if_pos bF]
    exact ok2_some ⟨rfl, R'⟩
theorem RH.end0 {a : Nat} (h0 : ∀ p, p < 12 → μ 63 p = nI 0) (h1 : I a 1 = nI 0) (h2 : μ 62 0 = nI 0) : RH I μ a := ⟨0, by decide, h1, h2, fun i hi => by omega, fun p hp => Or.inl ⟨h0 p hp, fun i hi => by omega⟩⟩
theorem RH.told {a c p q : Nat} (hc : c < 12) (hp : p < 12) (hq : q < 12) (H : RH I μ a) (e1 : I a 1 = nI c) {ν : Mem} (hν : ∀ p', p' < 12 → ν 63 p' = if p' = p ∧ μ 63 p = nI 0 then nI (q + 1) else μ 63 p') (hm : ν 62 0 = nI (c + 1)) : RH (up2 (up2 (up2 I (a + 2 + c) 0 (nI p)) (a + 2 + c) 1 (nI q)) a 1 (nI (c + 1))) ν a := by
  obtain ⟨c', hc', g1, g2, h, h'⟩ := H
  rw [e1, nI_eq (by omega) (by omega)] at g1
  subst g1
  have x0 : ∀ i, i < c → up2 (up2 (up2 I (a + 2 + c) 0 (nI p)) (a + 2 + c) 1 (nI q)) a 1 (nI (c + 1)) (a + 2 + i) = I (a + 2 + i) := fun i hi => by rw [up2_k (by omega), up2_k (by omega), up2_k (by omega)]
  have n0 : up2 (up2 (up2 I (a + 2 + c) 0 (nI p)) (a + 2 + c) 1 (nI q)) a 1 (nI (c + 1)) (a + 2 + c) 0 = nI p := by rw [up2_k (by omega), up2_ne (by omega), up2_same]
  have n1 : up2 (up2 (up2 I (a + 2 + c) 0 (nI p)) (a + 2 + c) 1 (nI q)) a 1 (nI (c + 1)) (a + 2 + c) 1 = nI q := by rw [up2_k (by omega), up2_same]
  refine ⟨c + 1, hc, up2_same _ _ _ _, hm, fun i hi => ?_, fun p' hp' => ?_⟩
  · by_cases e : i = c
    · subst e
      exact ⟨p, q, hp, hq, n0, n1⟩
    · rw [x0 i (by omega)]; exact h i (by omega)
  · rw [hν p' hp']
    rcases h' p' hp' with ⟨q1, q2⟩ | ⟨i, s, hi, hs, q1, q2, q3, q4⟩
    · by_cases e : p' = p
      · subst e
        rw [if_pos ⟨rfl, q1⟩]
        refine Or.inr ⟨c, q, by omega, hq, n0, fun j hj => ?_, n1, rfl⟩
        rw [x0 j hj]; exact q2 j hj
      · rw [if_neg (fun h => e h.1)]
        refine Or.inl ⟨q1, fun i hi => ?_⟩
        by_cases e2 : i = c
        · subst e2
          rw [n0, nI_eq (by omega) (by omega)]
          exact fun e3 => e e3.symm
        · rw [x0 i (by omega)]; exact q2 i (by omega)
    · have ne : ¬ (p' = p ∧ μ 63 p = nI 0) := by
        rintro ⟨rfl, e⟩
        rw [q4, nI_eq (by omega) (by decide)] at e
        omega
      rw [if_neg ne]
      refine Or.inr ⟨i, s, by omega, hs, by rw [x0 i hi]; exact q1, fun j hj => ?_, by rw [x0 i hi]; exact q3, q4⟩
      rw [x0 j (by omega)]; exact q2 j hj
theorem c_heir (R : RR z kd P I μ) (x y : Int32) : ok2 (x0_heir I z x y) (m_heir μ x y) (fun r t => r.1 = t.1 ∧ RR z kd P r.2 t.2) := by
  have R' := R.t0 (nI 0)
  have H := R'.bor.heirs
  obtain ⟨c, hc, e1, e2, h, h'⟩ := id H
  have e1 : I (z + 219) 1 = nI c := e1
  unfold x0_heir m_heir x2_ends
  rw [nm_eq, nm_eq, nm_eq, Option.bind_some, isIn_x, isIn_m, isIn_x, isIn_m, Option.bind_some, Option.bind_some, Option.bind_some, Option.bind_some]
  generalize hν : up2 μ 0 0 (nI 0) = ν at *
  refine ok2_ii Iff.rfl (fun _ _ => ?_) (fun _ _ => ?_)
  · refine ok2_forr 12 (fun i s => s.1 = nI i ∧ (∀ p, p < i → s.2 63 p = nI 0) ∧ s.2 62 0 = nI 0 ∧ ∀ k, k ≠ 62 ∧ k ≠ 63 → s.2 k = ν k) (by decide) ?_ ⟨rfl, fun p hp => by omega, by dsimp only; rw [up2_same], fun k hk => by dsimp only; rw [up2_k hk.1]⟩
    rintro again i ⟨_, ν'⟩ hi ⟨q1, h1, h2, mk⟩ ih
    dsimp only at q1 h1 h2 mk ⊢
    subst q1
    refine ok2_ir (fun cc => ok2_some ⟨rfl, ?_⟩) (fun cc => ?_)
    · have := le_iff (by decide) (by omega) cc
      have xk : ∀ q, ¬ (q = z + 219) → up2 I (z + 219) 1 (nI 0) q = I q := fun q hq => up2_k hq
      dsimp only
      exact R'.r8 (fun q hq => xk q (by omega)) (fun k hk => mk k (by omega)) (R'.bor.pieces.cong (fun c h1 h2 => xk c (by omega)) (by rw [mk 42 (by decide)]) (fun i _ => by rw [mk 43 (by decide)])) (R'.bor.doughs.cong (fun c h1 h2 => xk c (by omega)) (by rw [mk 45 (by decide)]) (fun i _ => by rw [mk 46 (by decide)])) (R'.bor.marks.cong (fun c h1 h2 => xk c (by omega)) (by rw [mk 49 (by decide)]) (fun i _ => by rw [mk 50 (by decide)])) (R'.bor.bites.cong (fun c h1 h2 => xk c (by omega)) (by rw [mk 51 (by decide)]) (fun i _ => by rw [mk 52 (by decide)]) (fun i _ => by rw [mk 53 (by decide)])) (R'.bor.crumbs.cong (fun c h1 h2 => xk c (by omega)) (by rw [mk 54 (by decide)]) (fun i _ => by rw [mk 55 (by decide)])) (R'.bor.loaves.cong (fun c h1 h2 => xk c (by omega)) (by rw [mk 57 (by decide)]) (fun i _ => by rw [mk 58 (by decide)]) (fun i _ => by rw [mk 59 (by decide)])) (RH.end0 (fun p hp => h1 p (by omega)) (up2_same _ _ _ _) h2) (R'.bor.members.cong (fun c h1 h2 => xk c (by omega)) (by rw [mk 66 (by decide)]) (fun i _ => by rw [mk 67 (by decide)]) (fun i _ => by rw [mk 68 (by decide)]))
    · have hlt := nle_iff (by decide) (by omega) cc
      rw [wr_eq (i := i) (by omega) (by decide), Option.bind_some, nI_add]
      refine ih hlt _ ⟨rfl, fun p hp => ?_, by dsimp only; rw [up2_k (by decide)]; exact h2, fun k hk => by dsimp only; rw [up2_k hk.2]; exact mk k hk⟩
      dsimp only
      by_cases e : p = i
      · subst e; rw [up2_same]
      · rw [up2_ne (Or.inr e)]; exact h1 p (by omega)
  refine ok2_ii Iff.rfl (fun _ _ => ok2_some ⟨rfl, R'⟩) (fun c1 _ => ?_)
  obtain ⟨p, _, hp, rfl⟩ := in_nI (by decide) (by decide) (of_decide_eq_true (sd_bI c1))
  refine ok2_ii Iff.rfl (fun _ _ => ok2_some ⟨rfl, R'⟩) (fun c2 _ => ?_)
  obtain ⟨q, _, hq, rfl⟩ := in_nI (by decide) (by decide) (of_decide_eq_true (sd_bI c2))
  refine ok2_ii Iff.rfl (fun _ _ => ok2_some ⟨rfl, R'⟩) (fun c3 _ => ?_)
  rw [e2]
  by_cases cf : c = 12
  · subst cf
    rw [tells_f e1, Option.bind_some, if_pos rfl]
    exact ok2_some ⟨rfl, R'⟩
  · have hlt : c < 12 := by omega
    rw [tells_x hlt (by decide) e1, Option.bind_some, if_neg (by rw [nI_eq (by omega) (by decide)]; omega), rd_eq (i := p) (by omega) (by decide), Option.bind_some, jn_eq, nI_add, wr_eq (i := p) (by omega) (by decide), Option.bind_some]
    have xk : ∀ s, ¬ (z + 219 ≤ s ∧ s < z + 233) → up2 (up2 (up2 I (z + 219 + 2 + c) 0 (nI p)) (z + 219 + 2 + c) 1 (nI q)) (z + 219) 1 (nI (c + 1)) s = I s := fun s hs => by rw [up2_k (by omega), up2_k (by omega), up2_k (by omega)]
    have fin : ∀ ν' : Mem, (∀ k, k ≠ 63 → ν' k = ν k) → (∀ p', p' < 12 → ν' 63 p' = if p' = p ∧ ν 63 p = nI 0 then nI (q + 1) else ν 63 p') → ok2 (some (nI (c + 1), up2 (up2 (up2 I (z + 219 + 2 + c) 0 (nI p)) (z + 219 + 2 + c) 1 (nI q)) (z + 219) 1 (nI (c + 1)))) (nm (up2 ν' 62 0 ((ν' 62 0) + (nI 1))) fun μ8 => some ((μ8 62 0), μ8)) (fun r t => r.1 = t.1 ∧ RR z kd P r.2 t.2) := by
      intro ν' g1 g2
      rw [nm_eq, g1 62 (by decide), e2, nI_add]
      refine ok2_some ⟨by dsimp only; rw [up2_same], ?_⟩
      have mk : ∀ k, k ≠ 62 ∧ k ≠ 63 → up2 ν' 62 0 (nI (c + 1)) k = ν k := fun k hk => by rw [up2_k hk.1]; exact g1 k hk.2
      dsimp only
      exact R'.r8 (fun s hs => xk s (by omega)) (fun k hk => mk k (by omega)) (R'.bor.pieces.cong (fun c h1 h2 => xk c (by omega)) (by rw [mk 42 (by decide)]) (fun i _ => by rw [mk 43 (by decide)])) (R'.bor.doughs.cong (fun c h1 h2 => xk c (by omega)) (by rw [mk 45 (by decide)]) (fun i _ => by rw [mk 46 (by decide)])) (R'.bor.marks.cong (fun c h1 h2 => xk c (by omega)) (by rw [mk 49 (by decide)]) (fun i _ => by rw [mk 50 (by decide)])) (R'.bor.bites.cong (fun c h1 h2 => xk c (by omega)) (by rw [mk 51 (by decide)]) (fun i _ => by rw [mk 52 (by decide)]) (fun i _ => by rw [mk 53 (by decide)])) (R'.bor.crumbs.cong (fun c h1 h2 => xk c (by omega)) (by rw [mk 54 (by decide)]) (fun i _ => by rw [mk 55 (by decide)])) (R'.bor.loaves.cong (fun c h1 h2 => xk c (by omega)) (by rw [mk 57 (by decide)]) (fun i _ => by rw [mk 58 (by decide)]) (fun i _ => by rw [mk 59 (by decide)])) (RH.told hlt (by omega) (by omega) H e1 (fun p' hp' => by rw [up2_k (by decide)]; exact g2 p' hp') (up2_same _ _ _ _)) (R'.bor.members.cong (fun c h1 h2 => xk c (by omega)) (by rw [mk 66 (by decide)]) (fun i _ => by rw [mk 67 (by decide)]) (fun i _ => by rw [mk 68 (by decide)]))
    refine ok2_ir (fun c0 => fin _ (fun k hk => up2_k hk) (fun p' hp' => ?_)) (fun c0 => fin _ (fun _ _ => rfl) (fun p' hp' => ?_))
    · by_cases e : p' = p
      · subst e; rw [up2_same, if_pos ⟨rfl, by rw [c0]; rfl⟩]
      · rw [up2_ne (Or.inr e), if_neg (fun h => e h.1)]
    · rw [if_neg (fun h => c0 (by rw [h.2]; rfl))]
end TOLD
