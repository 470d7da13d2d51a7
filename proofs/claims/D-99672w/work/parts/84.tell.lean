/-! ===== the law tells ===== -/
section TELL
variable {kd : Kd} {b n nt lw cl : Nat} {P0 P : Ptr} {I0 μ0 I μ : Mem}
theorem TM_cong {P' : Ptr} {I' μ' : Mem} (h : ∀ t, (kd t = (7, 0, 0) ∨ kd t = (8, 0, 0) ∨ kd t = (9, 0, 0) ∨ kd t = (10, 0, 0)) → I' t = I t ∧ P' t = P t) (h22 : μ' 22 = μ 22) (h23 : μ' 23 = μ 23) : ∀ (d t a c : Nat), TM kd P I μ d t a c → TM kd P' I' μ' d t a c := by
  intro d
  induction d with
  | zero => intro t a c h; exact h
  | succ d ih =>
    intro t a c q
    unfold TM at q ⊢
    rw [h22, h23]
    rcases q with ⟨kt, q⟩ | ⟨kt, q⟩ | ⟨kt, l, r, m, e, hl, hr, tl, tr, e1, e2, e3, hop⟩
    · rw [(h t (Or.inl kt)).1]; exact Or.inl ⟨kt, q⟩
    · rw [(h t (Or.inr (Or.inl kt))).1]; exact Or.inr (Or.inl ⟨kt, q⟩)
    · have ht := h t (Or.inr (Or.inr (Or.inl kt)))
      rw [ht.1]
      refine Or.inr (Or.inr ⟨kt, l, r, m, e, by rw [ht.2]; exact hl, by rw [ht.2]; exact hr, ih _ _ _ tl, ih _ _ _ tr, e1, e2, e3, ?_⟩)
      rcases hop with q | q | q | q | q | q | q
      · exact Or.inl q
      · exact Or.inr (Or.inl q)
      · exact Or.inr (Or.inr (Or.inl q))
      · exact Or.inr (Or.inr (Or.inr (Or.inl ⟨q.1, q.2.1, q.2.2.1, by rw [(h r (Or.inl q.2.2.1)).1]; exact q.2.2.2⟩)))
      · exact Or.inr (Or.inr (Or.inr (Or.inr (Or.inl q))))
      · exact Or.inr (Or.inr (Or.inr (Or.inr (Or.inr (Or.inl q)))))
      · exact Or.inr (Or.inr (Or.inr (Or.inr (Or.inr (Or.inr q)))))
theorem TB_cong {P' : Ptr} {I' μ' : Mem} (h : ∀ t, (kd t = (7, 0, 0) ∨ kd t = (8, 0, 0) ∨ kd t = (9, 0, 0) ∨ kd t = (10, 0, 0)) → I' t = I t ∧ P' t = P t) (h22 : μ' 22 = μ 22) (h23 : μ' 23 = μ 23) : ∀ (d t a c : Nat), TB kd P I μ d t a c → TB kd P' I' μ' d t a c := by
  intro d
  induction d with
  | zero => intro t a c h; exact h
  | succ d ih =>
    intro t a c q
    unfold TB at q ⊢
    rw [h22]
    rcases q with ⟨kt, l, r, m, e, hl, hr, e1, e2, e3, hop⟩ | ⟨kt, l, e, hl, tl, q⟩
    · have ht := h t (Or.inr (Or.inr (Or.inl kt)))
      rw [ht.1]
      refine Or.inl ⟨kt, l, r, m, e, by rw [ht.2]; exact hl, by rw [ht.2]; exact hr, e1, e2, e3, ?_⟩
      rcases hop with ⟨tl, tr, q⟩ | ⟨tl, tr, q⟩
      · exact Or.inl ⟨TM_cong h h22 h23 _ _ _ _ tl, TM_cong h h22 h23 _ _ _ _ tr, q⟩
      · exact Or.inr ⟨ih _ _ _ tl, ih _ _ _ tr, q⟩
    · have ht := h t (Or.inr (Or.inr (Or.inr kt)))
      exact Or.inr ⟨kt, l, e, by rw [ht.2]; exact hl, ih _ _ _ tl, q⟩
theorem runs_end {ν : Mem} {c N : Nat} {v : Int32} (hc : c ≤ 400) (hv : ν 40 0 = v) (hN : 1 ≤ N) : lp (rb (nI c) (fun j2 => (rd j2 40 420 (nI 0)).bind fun v5 => some (v5, j2))) N (nI 1, nI c, ν) = some (v, ν) := by
  obtain ⟨N, rfl⟩ : ∃ M, N = M + 1 := ⟨N - 1, by omega⟩
  rw [lp_s]
  unfold rb
  dsimp only
  rw [pk_mul, nI_add, if_pos (nI_le (by omega) (by omega)), rd_eq (i := 0) (by decide) (by decide), Option.bind_some, hv]
theorem runs_t (F : FC kd P I μ b) {ν : Mem} {t a c : Nat} (h : TM kd P I μ 420 t a c) (hc : c ≤ 400) (hν : ∀ k, k ≠ 40 → ν k = μ k) : ∃ v ν', tofD kd P I t b = some v ∧ m_runs ν (nI 0) (nI a) (nI c) = some (v, ν') ∧ ∀ k, k ≠ 40 → ν' k = μ k := by
  obtain ⟨ac, v, ν', h1, h2, h3⟩ := run_t (k := fun j2 => (rd j2 40 420 (nI 0)).bind fun v5 => some (v5, j2)) F hc 420 t a c 0 ν h (Nat.le_refl _) (by omega) hν
  refine ⟨v, ν', h1, ?_, fun k hk => by rw [h3.2.2 k hk]; exact hν k hk⟩
  rw [runs_rb, pk_mul, nI_add, show 400 * 0 + a = a by omega]
  have hf : fuel = (20000 - (c - a)) + (c - a) := by show 20000 = _; omega
  rw [hf, h2]
  exact runs_end hc h3.1 (by omega)
theorem runs_b (F : FC kd P I μ b) {ν : Mem} {t a c : Nat} (h : TB kd P I μ 420 t a c) (hc : c ≤ 400) (hν : ∀ k, k ≠ 40 → ν k = μ k) : a < c ∧ ∃ v ν', i01 v ∧ tofD kd P I t b = some v ∧ m_runs ν (nI 0) (nI a) (nI c) = some (v, ν') ∧ ∀ k, k ≠ 40 → ν' k = μ k := by
  obtain ⟨ac, v, ν', h0, h1, h2, h3⟩ := run_b (k := fun j2 => (rd j2 40 420 (nI 0)).bind fun v5 => some (v5, j2)) F hc 420 t a c 0 ν h (Nat.le_refl _) (by omega) hν
  refine ⟨ac, v, ν', h0, h1, ?_, fun k hk => by rw [h3.2.2 k hk]; exact hν k hk⟩
  rw [runs_rb, pk_mul, nI_add, show 400 * 0 + a = a by omega]
  have hf : fuel = (20000 - (c - a)) + (c - a) := by show 20000 = _; omega
  rw [hf, h2]
  exact runs_end hc h3.1 (by omega)
def ELine (kd : Kd) (b : Nat) (P0 : Ptr) (I0 μ0 : Mem) (i e : Nat) : Prop := kd e = (11, 0, 0) ∧ ¬ chg b e ∧ (∃ q, q ≤ 2 ∧ I0 e 0 = nI (7 + q) ∧ μ0 18 i = nI q) ∧ ∃ a c, c ≤ 400 ∧ μ0 19 i = nI a ∧ μ0 20 i = nI c ∧ (∃ t, P0 e 1 = some t ∧ TM kd P0 I0 μ0 420 t a c) ∧ ((P0 e 2 = none ∧ μ0 21 i = nI c) ∨ ∃ t f, P0 e 2 = some t ∧ f ≤ 400 ∧ μ0 21 i = nI f ∧ TB kd P0 I0 μ0 420 t c f)
def BW (kd : Kd) (b lw cl : Nat) (P0 : Ptr) (I0 μ0 : Mem) : Prop := (P0 b 10 = some lw) ∧ (¬ chg b lw) ∧ (LST kd P0 I0 lw cl (ELine kd b P0 I0 μ0)) ∧ (μ0 17 0 = nI cl) ∧ (∀ h, h < 12 → kd (b + 245 + 2 * h) = (3, 0, 0)) ∧ (∀ a, chg b a → kd a ≠ (7, 0, 0) ∧ kd a ≠ (8, 0, 0) ∧ kd a ≠ (9, 0, 0) ∧ kd a ≠ (10, 0, 0))
theorem BW.lp {kd : Kd} {b lw cl : Nat} {P0 : Ptr} {I0 μ0 : Mem} (S : BW kd b lw cl P0 I0 μ0) : P0 b 10 = some lw := S.1
theorem BW.ln {kd : Kd} {b lw cl : Nat} {P0 : Ptr} {I0 μ0 : Mem} (S : BW kd b lw cl P0 I0 μ0) : ¬ chg b lw := S.2.1
theorem BW.ll {kd : Kd} {b lw cl : Nat} {P0 : Ptr} {I0 μ0 : Mem} (S : BW kd b lw cl P0 I0 μ0) : LST kd P0 I0 lw cl (ELine kd b P0 I0 μ0) := S.2.2.1
theorem BW.lm {kd : Kd} {b lw cl : Nat} {P0 : Ptr} {I0 μ0 : Mem} (S : BW kd b lw cl P0 I0 μ0) : μ0 17 0 = nI cl := S.2.2.2.1
theorem BW.hk {kd : Kd} {b lw cl : Nat} {P0 : Ptr} {I0 μ0 : Mem} (S : BW kd b lw cl P0 I0 μ0) : ∀ h, h < 12 → kd (b + 245 + 2 * h) = (3, 0, 0) := S.2.2.2.2.1
theorem BW.kc {kd : Kd} {b lw cl : Nat} {P0 : Ptr} {I0 μ0 : Mem} (S : BW kd b lw cl P0 I0 μ0) : ∀ a, chg b a → kd a ≠ (7, 0, 0) ∧ kd a ≠ (8, 0, 0) ∧ kd a ≠ (9, 0, 0) ∧ kd a ≠ (10, 0, 0) := S.2.2.2.2.2
theorem bound_x (ν : Mem) (r : Int32) {m : Nat} (hm : m < 2 ^ 31) : ∃ u, u ≤ m ∧ x0_bound r (nI 0) (nI m) = some (nI u) ∧ m_held ν r (nI 0) (nI m) = some (nI u) := by
  unfold x0_bound
  by_cases c : nI 0 ≤ r
  · obtain ⟨j, hj, rfl⟩ := nI_of (x := r) (by rw [nI_0] at c; intro h; exact (fa_of_lt h).2.1 c)
    refine ⟨min m j, by omega, ?_, ?_⟩
    · rw [imin_nI hm hj, imax_nI (by omega) (by omega), show max 0 (min m j) = min m j by omega]
    · by_cases c2 : j ≤ m
      · rw [held_in ν c (nI_le c2 hm), Nat.min_eq_right c2]
      · rw [held_hi ν c (nI_ge (by omega) hj), Nat.min_eq_left (by omega)]
  · refine ⟨0, by omega, ?_, held_lo ν c⟩
    have h1 : r < nI 0 := fa_of_nle c
    have h2 : imin (nI m) r = r := if_pos (fa_trans h1 (nI_le (Nat.zero_le _) hm))
    rw [h2]
    unfold imax
    rw [if_neg (fa_of_lt h1).2.2.1]
theorem upP_ne {P : Ptr} {a i c j : Nat} {r : Option Nat} (h : ¬ (c = a ∧ j = i)) : upP P a i r c j = P c j := by
  unfold upP va_up
  by_cases e : c = a
  · rw [if_pos e, if_neg (fun q => h ⟨e, q⟩)]
  · rw [if_neg e]
theorem upP_k {P : Ptr} {a i c : Nat} {r : Option Nat} (h : c ≠ a) : upP P a i r c = P c := if_neg h
theorem upP_same (P : Ptr) (a i : Nat) (r : Option Nat) : upP P a i r a i = r := by
  unfold upP va_up
  rw [if_pos rfl, if_pos rfl]
theorem ST.ask (S : ST b P0 I0 μ0 P I μ) {ν : Mem} (hν : ∀ k, k ≠ 39 → k ≠ 40 → ν k = μ k) (r : Option Nat) (x : Int32) : ST b P0 I0 μ0 (upP P b 24 r) (up2 I b 25 x) ν := by
  refine ⟨?_, fun i hi => by rw [hν 1 (by decide) (by decide)]; exact S.rgs i hi, fun h5 l hl e i k hi hk => ?_, fun h5 => by rw [hν 9 (by decide) (by decide)]; exact S.b9 h5, fun a ha => ?_, fun j hj hj2 => ?_, fun k h1 h2 h3 h4 => by rw [hν k h3 h4]; exact S.fm k h1 h2 h3 h4, fun a i h => by rw [upP_ne h]; exact S.fp a i h, fun l l' q1 q2 q3 q4 => S.ln l l' q1 q2 q3 (by rw [hν 1 (by decide) (by decide)] at q4; exact q4)⟩
  · refine BR.cong (I := up2 I b 25 x) (μ := μ) ?_ (fun a _ _ _ => rfl) (fun k hk => hν k (by omega) (by omega))
    refine S.br.xo x (fun k i hm e => ?_)
    rcases mi_cases hm with ⟨rfl, h⟩ | ⟨h, w, hh, hw, rfl, rfl⟩ | ⟨h, hh, rfl, rfl⟩ | ⟨h, hh, rfl, rfl⟩ | ⟨h, hh, rfl, rfl⟩ | ⟨h, hh, rfl, rfl⟩ | ⟨h, hh, rfl, rfl⟩ | ⟨rfl, h⟩ | ⟨rfl, h⟩ | ⟨rfl, rfl⟩ | ⟨rfl, rfl⟩
    · have := xl_fld (b := b) (show i < 115 by omega)
      rw [e] at this
      have := this rfl
      dsimp only at this
      omega
    · rw [xl_wall hh hw, Prod.mk.injEq] at e; omega
    · rw [xl_hard hh, Prod.mk.injEq] at e; omega
    · rw [xl_icing hh, Prod.mk.injEq] at e; omega
    · rw [xl_lodgers hh, Prod.mk.injEq] at e; omega
    · rw [xl_door hh, Prod.mk.injEq] at e; omega
    · rw [xl_age hh, Prod.mk.injEq] at e; omega
    · have e : (b + 245 + 2 * i, 1) = (b, 25) := e; rw [Prod.mk.injEq] at e; omega
    · have e : (b + 245 + 2 * i, 2) = (b, 25) := e; rw [Prod.mk.injEq] at e; omega
    · have e : (b, 14) = (b, 25) := e; rw [Prod.mk.injEq] at e; omega
    · have e : (b, 23) = (b, 25) := e; rw [Prod.mk.injEq] at e; omega
  · rw [hν 1 (by decide) (by decide)] at e
    rw [hν 9 (by decide) (by decide), up2_ne (by omega)]
    exact S.bk h5 l hl e i k hi hk
  · rw [up2_k (fun e => ha (Or.inl e))]; exact S.fx a ha
  · rw [up2_ne (Or.inr hj2)]; exact S.fb j hj hj2
theorem tells2 (W : BW kd b lw cl P0 I0 μ0) (S : ST b P0 I0 μ0 P I μ) {h w q mx : Nat} (hh : h < 12) (hq : q ≤ 2) (hmx : mx < 2 ^ 31) {μA : Mem} (hA : ∀ k, k ≠ 39 → μA k = μ k) (F : FC kd (upP P b 24 (some (b + 245 + 2 * h))) (up2 I b 25 (nI w)) μA b) (df : Int32) :
    ok2 (x1_tells kd P I b (nI (7 + q)) (b + 245 + 2 * h) (nI w) df (nI mx)) (m_lawTells μA (nI q) df (nI mx)) (TQ b P0 I0 μ0 μ mx) := by
  have hcl : cl ≤ 16 := W.ll.2.2.1
  have e0 : ∀ k, k ≠ 39 → k ≠ 40 → k ≠ 1 → k ≠ 9 → μA k = μ0 k := fun k h1 h2 h3 h4 => by rw [hA k h1]; exact S.fm k h3 h4 h1 h2
  unfold x1_tells m_lawTells m_lineOf
  refine ok2_nl (ok2_nl ?_)
  have fin : ∀ (r : Int32) (ν : Mem), (∀ k, k ≠ 40 → ν k = μA k) → ok2 ((x0_bound r (nI 0) (nI mx)).bind fun r6 => some (r6, upP P b 24 (some (b + 245 + 2 * h)), up2 I b 25 (nI w))) ((m_held ν r (nI 0) (nI mx)).bind fun r5 => some (r5, ν)) (TQ b P0 I0 μ0 μ mx) := by
    intro r ν hν
    obtain ⟨u, hu, h1, h2⟩ := bound_x ν r hmx
    rw [h1, h2, Option.bind_some, Option.bind_some]
    refine ok2_some ⟨rfl, ⟨u, hu, rfl⟩, S.ask (ν := ν) (fun k k1 k2 => by rw [hν k k2]; exact hA k k1) _ _, ?_⟩
    show ν 1 = μ 1
    rw [hν 1 (by decide), hA 1 (by decide)]
  refine ok2_jgen (fun k4 ek => ?_)
  refine ok2_lpb (fun s s' => ∃ i, i ≤ cl ∧ s = nI i ∧ s'.1 = nI i ∧ ∀ k, k ≠ 40 → s'.2 k = μA k) (fun s => cl - s.toNatClampNeg) ?_ fuel fuel _ _ ⟨0, Nat.zero_le _, rfl, rfl, fun _ _ => rfl⟩ (clamp_0 (c := cl) (by omega)) (clamp_0 (c := cl) (by omega))
  rintro again again' s1 ⟨s2, ν⟩ ⟨i, hi, e1, e2, hν⟩ ih
  dsimp only at e1 e2 hν ih ⊢
  subst e1 e2
  have go : ∀ ν', i < cl → (∀ k, k ≠ 40 → ν' k = μA k) → ok2 (again (nI (i + 1))) ((again' (nI (i + 1), ν')).bind _) (TQ b P0 I0 μ0 μ mx) := fun ν' hlt hν' => ih _ _ ⟨i + 1, hlt, rfl, rfl, hν'⟩ (clamp_s (by omega) hlt)
  have Pn : ∀ c j, c ≠ b → upP P b 24 (some (b + 245 + 2 * h)) c j = P0 c j := fun c j hc => by rw [upP_ne (fun e => hc e.1)]; exact S.fp c j (fun e => hc e.1)
  have Pb : upP P b 24 (some (b + 245 + 2 * h)) b 10 = some lw := by rw [upP_ne (by omega), S.fp _ _ (by omega)]; exact W.lp
  have hp := pk_of Pb W.ll.1
  have Iq : ∀ a, ¬ chg b a → up2 I b 25 (nI w) a = I0 a := fun a ha => by rw [up2_k (fun e => ha (Or.inl e))]; exact S.fx a ha
  have L : LST kd (upP P b 24 (some (b + 245 + 2 * h))) (up2 I b 25 (nI w)) lw cl (ELine kd b P0 I0 μ0) := W.ll.to W.ln (S.ask (ν := μ) (fun _ _ _ => rfl) _ _)
  have tm : ∀ t, (kd t = (7, 0, 0) ∨ kd t = (8, 0, 0) ∨ kd t = (9, 0, 0) ∨ kd t = (10, 0, 0)) → up2 I b 25 (nI w) t = I0 t ∧ upP P b 24 (some (b + 245 + 2 * h)) t = P0 t := fun t ht => by
    have hc : ¬ chg b t := fun hc => by
      obtain ⟨a1, a2, a3, a4⟩ := W.kc t hc
      rcases ht with q | q | q | q
      · exact a1 q
      · exact a2 q
      · exact a3 q
      · exact a4 q
    exact ⟨Iq t hc, funext fun j => Pn t j (fun e => hc (Or.inl e))⟩
  have e17 : ν 17 0 = nI cl := by rw [hν 17 (by decide), e0 17 (by decide) (by decide) (by decide) (by decide)]; exact W.lm
  unfold j2_size
  rw [hp, Option.bind_some, Option.bind_some, rd_eq (i := 0) (by decide) (by decide), Option.bind_some, Option.bind_some, ite_bind, e17]
  refine ok2_ii (by rw [L.2.1]) (fun _ _ => ?_) (fun c _ => ?_)
  · subst ek
    rw [Option.bind_some]
    refine ok2_jr (ok2_tr rfl ?_)
    exact fin df ν hν
  · rw [L.2.1] at c
    have hlt := lt_of_nle (by omega) hi c
    obtain ⟨e, hg, ke, hc, ⟨q', hq', x0, m18⟩, a, f, hf, m19, m20, ⟨t, pt, Tt⟩, hcond⟩ := L.get hlt
    have eb : e ≠ b := fun q => hc (Or.inl q)
    have k0 : ∀ k, k ≠ 39 → k ≠ 40 → k ≠ 1 → k ≠ 9 → ν k = μ0 k := fun k h1 h2 h3 h4 => by rw [hν k h2]; exact e0 k h1 h2 h3 h4
    have Tt' : TM kd (upP P b 24 (some (b + 245 + 2 * h))) (up2 I b 25 (nI w)) μA 420 t a f := TM_cong tm (e0 22 (by decide) (by decide) (by decide) (by decide)) (e0 23 (by decide) (by decide) (by decide) (by decide)) _ _ _ _ Tt
    rw [hg, Option.bind_some, pk_of rfl ke, Option.bind_some, Iq e hc, x0, rd_eq (i := i) (by omega) (by decide), Option.bind_some, k0 18 (by decide) (by decide) (by decide) (by decide), m18, nI_add, ite_bind]
    refine ok2_ii (by rw [nI_eq (by omega) (by omega), nI_eq (by omega) (by omega)]; omega) (fun _ _ => ?_) (fun _ _ => go ν hlt hν)
    rw [rd_eq (i := i) (k := 20) (by omega) (by decide), Option.bind_some, rd_eq (i := i) (k := 21) (by omega) (by decide), Option.bind_some, k0 20 (by decide) (by decide) (by decide) (by decide), k0 21 (by decide) (by decide) (by decide) (by decide), m20, ite_bind]
    have value : ∀ ν', (∀ k, k ≠ 40 → ν' k = μA k) → ok2 (((upP P b 24 (some (b + 245 + 2 * h))) e 1).bind fun b19 => (tofD kd (upP P b 24 (some (b + 245 + 2 * h))) (up2 I b 25 (nI w)) b19 b).bind fun r20 => (x0_bound r20 (nI 0) (nI mx)).bind fun r21 => some (r21, upP P b 24 (some (b + 245 + 2 * h)), up2 I b 25 (nI w)))
        ((some (nI i, ν')).bind fun r1 => jn (fun (j2 : Int32 × Mem) => (m_held j2.2 j2.1 (nI 0) (nI mx)).bind fun r5 => some (r5, j2.2)) (fun k3 => if r1.1 = (-1 : Int32) then k3 (df, r1.2) else (rd r1.2 19 48 r1.1).bind fun v6 => (rd r1.2 20 48 r1.1).bind fun v7 => (m_runs r1.2 (nI 0) v6 v7).bind fun r8 => k3 (r8.1, r8.2))) (TQ b P0 I0 μ0 μ mx) := by
      intro ν' hν'
      obtain ⟨v, ν2, v1, v2, v3⟩ := runs_t F Tt' hf hν'
      have k1 : ∀ k, k ≠ 39 → k ≠ 40 → k ≠ 1 → k ≠ 9 → ν' k = μ0 k := fun k h1 h2 h3 h4 => by rw [hν' k h2]; exact e0 k h1 h2 h3 h4
      rw [Pn e 1 eb, pt, Option.bind_some, v1, Option.bind_some, Option.bind_some]
      refine ok2_jr (ok2_fr (nI_ne_m1 (by omega)) ?_)
      dsimp only
      rw [rd_eq (i := i) (k := 19) (by omega) (by decide), Option.bind_some, rd_eq (i := i) (k := 20) (by omega) (by decide), Option.bind_some, k1 19 (by decide) (by decide) (by decide) (by decide), k1 20 (by decide) (by decide) (by decide) (by decide), m19, m20, v2, Option.bind_some]
      exact fin v ν2 v3
    rcases hcond with ⟨pn, m21⟩ | ⟨t2, g, pn, hg2, m21, T2⟩
    · rw [Pn e 2 eb, pn, m21]
      refine ok2_tl rfl (ok2_tr rfl ?_)
      exact value ν hν
    · have T2' : TB kd (upP P b 24 (some (b + 245 + 2 * h))) (up2 I b 25 (nI w)) μA 420 t2 f g := TB_cong tm (e0 22 (by decide) (by decide) (by decide) (by decide)) (e0 23 (by decide) (by decide) (by decide) (by decide)) _ _ _ _ T2
      obtain ⟨fg, v, ν2, vb, v1, v2, v3⟩ := runs_b F T2' hg2 hν
      rw [Pn e 2 eb, pn, m21]
      refine ok2_fl (by simp) (ok2_fr (by rw [nI_eq (by omega) (by omega)]; omega) ?_)
      rw [Option.bind_some, v1, Option.bind_some, Option.bind_some, Option.bind_some, v2, Option.bind_some, ite_bind]
      rcases vb with rfl | rfl
      · refine ok2_fl (by decide) (ok2_tr rfl ?_)
        exact go ν2 hlt v3
      · refine ok2_tl rfl (ok2_fr (show ¬ nI 1 = 0 by decide) ?_)
        exact value ν2 v3
end TELL
