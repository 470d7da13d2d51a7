/-! ===== walls that lose and gain ===== -/
theorem nI_sub {a c : Nat} (h : c ≤ a) : nI a - nI c = nI (a - c) := by
  have : nI a = nI (a - c) + nI c := by rw [nI_add, Nat.sub_add_cancel h]
  rw [this, Int32.add_sub_cancel]
theorem nI_subn {a c : Nat} (h : a < c) (hc : c < 2 ^ 30) : nI a - nI c < 0 := by
  rw [fa_lt, fb_subI, nI_toInt (by omega), nI_toInt (by omega)]
  · show (a : Int) - c < 0; omega
  · rw [nI_toInt (by omega), nI_toInt (by omega)]; omega
  · rw [nI_toInt (by omega), nI_toInt (by omega)]; omega
theorem imin_nI {a c : Nat} (ha : a < 2 ^ 31) (hc : c < 2 ^ 31) : imin (nI a) (nI c) = nI (min a c) := by
  unfold imin
  by_cases h : c < a
  · rw [if_pos (nI_lt h ha), Nat.min_eq_right (by omega)]
  · rw [if_neg (nI_nlt (by omega) hc), Nat.min_eq_left (by omega)]
theorem imax_nI {a c : Nat} (ha : a < 2 ^ 31) (hc : c < 2 ^ 31) : imax (nI a) (nI c) = nI (max a c) := by
  unfold imax
  by_cases h : a < c
  · rw [if_pos (nI_lt h hc), Nat.max_eq_right (by omega)]
  · rw [if_neg (nI_nlt (by omega) ha), Nat.max_eq_left (by omega)]
theorem held_lo (μ : Mem) {v lo hi : Int32} (h : ¬ lo ≤ v) : m_held μ v lo hi = some lo := if_neg h
theorem held_in (μ : Mem) {v lo hi : Int32} (h : lo ≤ v) (h2 : v ≤ hi) : m_held μ v lo hi = some v := by
  unfold m_held
  rw [if_pos h, if_pos h2]
theorem held_hi (μ : Mem) {v lo hi : Int32} (h : lo ≤ v) (h2 : ¬ v ≤ hi) : m_held μ v lo hi = some hi := by
  unfold m_held
  rw [if_pos h, if_neg h2]
section WED
variable {kd : Kd} {b n nt : Nat} {P0 P : Ptr} {I0 μ0 I μ : Mem}
theorem hw_eq {h w v : Nat} (hh : h < 12) (hw : w < 4) {x : Int32} (hx : m_held μ x (nI 0) (nI 99) = some (nI v)) : m_hasWall μ (nI h) (nI w) x = some (up2 μ 1 (7 + 4 * h + w) (nI v)) := by
  unfold m_hasWall
  rw [hx, Option.bind_some, ixW, wr_eq (by omega) (by decide)]
  rfl
theorem hw_less {h w v q : Nat} (hh : h < 12) (hw : w < 4) (hv : v ≤ 99) (hq : q < 2 ^ 29) : m_hasWall μ (nI h) (nI w) (nI v - nI q) = some (up2 μ 1 (7 + 4 * h + w) (nI (v - q))) := by
  refine hw_eq hh hw ?_
  by_cases c : q ≤ v
  · rw [nI_sub c]
    exact held_in μ (nI_le (Nat.zero_le _) (by omega)) (nI_le (by omega) (by omega))
  · rw [show v - q = 0 by omega]
    refine held_lo μ ?_
    rw [nI_0]
    intro hc
    have := nI_subn (a := v) (c := q) (by omega) (by omega)
    rw [fa_lt] at this
    rw [fa_le] at hc
    omega
theorem hw_more {h w v q : Nat} (hh : h < 12) (hw : w < 4) (hv : v ≤ 99) (hq : q < 2 ^ 29) : m_hasWall μ (nI h) (nI w) (nI v + nI q) = some (up2 μ 1 (7 + 4 * h + w) (nI (min 99 (v + q)))) := by
  refine hw_eq hh hw ?_
  rw [nI_add]
  by_cases c : v + q ≤ 99
  · rw [Nat.min_eq_right c]
    exact held_in μ (nI_le (Nat.zero_le _) (by omega)) (nI_le c (by omega))
  · rw [Nat.min_eq_left (by omega)]
    exact held_hi μ (nI_le (Nat.zero_le _) (by omega)) (nI_ge (by omega) (by omega))
theorem loses_x (S : ST b P0 I0 μ0 P I μ) {h w v q : Nat} (hh : h < 12) (hw : w < 4) (ev : μ 1 (7 + 4 * h + w) = nI v) (hv : v ≤ 99) (hq : q < 2 ^ 29) : x3_loses I (b + 245 + 2 * h) (nI w) (nI q) = some (nI (min q v), up2 I (b + 246 + 2 * h) w (nI (v - q))) := by
  unfold x3_loses
  rw [rd_eq hw (by decide), Option.bind_some, Option.bind_some, wr_eq hw (by decide), Option.bind_some, b_hut, S.br.wall hh hw, ev, imin_nI (by omega) (by omega), nI_sub (by omega), show v - min q v = v - q by omega]
theorem bakes_x (S : ST b P0 I0 μ0 P I μ) {h w v q : Nat} (hh : h < 12) (hw : w < 4) (ev : μ 1 (7 + 4 * h + w) = nI v) (hv : v ≤ 99) (hq : q < 2 ^ 29) : x3_bakes I (b + 245 + 2 * h) (nI w) (nI q) = some (up2 I (b + 246 + 2 * h) w (nI (min 99 (v + q)))) := by
  unfold x3_bakes
  rw [rd_eq hw (by decide), Option.bind_some, wr_eq hw (by decide), Option.bind_some, b_hut, S.br.wall hh hw, ev, nI_add, imin_nI (by omega) (by omega)]
theorem ST.wset (S : ST b P0 I0 μ0 P I μ) {h w v : Nat} (hh : h < 12) (hw : w < 4) (hv : v ≤ 99) : ST b P0 I0 μ0 P (up2 I (b + 246 + 2 * h) w (nI v)) (up2 μ 1 (7 + 4 * h + w) (nI v)) := S.set (by omega) (by omega) (xl_wall hh hw) (rg_wall (by omega) (by omega) hv)
theorem canWed2 (S : ST b P0 I0 μ0 P I μ) {h : Nat} (hh : h < 12) : ∃ r, x1_canWed I b (nI h) = some r ∧ m_canWed μ (nI h) = some r := by
  have : ok2 (x1_canWed I b (nI h)) (m_canWed μ (nI h)) (fun r t => r = t) := by
    unfold x1_canWed m_canWed
    rw [ix_eq hh (by decide), Option.bind_some, bsd S.br hh, Option.bind_some, stand_m μ hh, Option.bind_some]
    refine ok2_ii Iff.rfl (fun _ _ => ok2_some rfl) (fun _ _ => ?_)
    rw [Option.bind_some, nI_add, rd_eq (by omega) (by decide), Option.bind_some, S.br.door hh]
    refine ok2_ii Iff.rfl (fun _ _ => ?_) (fun _ _ => ok2_some rfl)
    rw [nI_add, rd_eq (by omega) (by decide), Option.bind_some, S.br.lodgers hh]
    refine ok2_ii Iff.rfl (fun _ _ => ok2_some rfl) (fun _ _ => ok2_some rfl)
  obtain ⟨r, t, h1, h2, rfl⟩ := this
  exact ⟨r, h1, h2⟩
theorem weds2 (A : BA kd b n nt P0 I0 μ0) (S : ST b P0 I0 μ0 P I μ) {h : Nat} (hh : h < 12) : ok2 (x1_weds kd P I b (nI h)) (m_isWed μ (nI h)) (fun I' μ' => ST b P0 I0 μ0 P I' μ') := by
  unfold x1_weds m_isWed
  have S1 := S.set (x := nI 1) (by omega) (by omega) (xl_door hh) (rg_door (by omega) (by omega) (Or.inr rfl))
  have etk : tk (wl (up2 μ 1 (91 + h) (nI 1)) h) = tk (wl μ h) := tk_cong (fun w hw => up2_ne (by omega))
  have hw := tk_lt (wl μ h)
  obtain ⟨v, hv, ev⟩ := S1.wl hh hw
  have ev' : μ 1 (7 + 4 * h + tk (wl μ h)) = nI v := by rw [← ev, up2_ne (by omega)]
  rw [thick_m μ hh, Option.bind_some, nI_add, wr_eq (by omega) (by decide), Option.bind_some, wallOf_m _ hh hw, Option.bind_some, wl, ev, hw_less hh hw hv (by decide), Option.bind_some]
  rw [ix_eq hh (by decide), Option.bind_some]
  refine ok2_nl ?_
  rw [btk S1.br hh, Option.bind_some, etk, loses_x S1 hh hw ev hv (by decide), Option.bind_some]
  refine ok2_nl ?_
  have S2 := S1.wset hh hw (show v - 10 ≤ 99 by omega)
  rw [nI_add, rd_eq (by omega) (by decide), Option.bind_some, wr_eq (by omega) (by decide), Option.bind_some, rd_eq (by omega) (by decide), Option.bind_some]
  have S3 := S2.set (by omega) (by omega) (xl_lodgers hh) (x := up2 (up2 μ 1 (91 + h) (nI 1)) 1 (7 + 4 * h + tk (wl μ h)) (nI (v - 10)) 1 (79 + h) + nI 1) (rg_no _ (by omega) (by omega) (by omega) (by omega))
  dsimp only
  rw [S2.br.lodgers hh]
  rw [S3.br.lodgers hh]
  refine ok2_b (notes2 S3 _ _ _) (fun I4 μ4 S4 => ?_)
  refine ok2_b (leaves2 A S4 hh) (fun I5 μ5 S5 => ok2_some S5)
theorem razes2 (A : BA kd b n nt P0 I0 μ0) (S : ST b P0 I0 μ0 P I μ) {h : Nat} (hh : h < 12) : ok2 (x1_razes kd P I b (nI h)) (m_isRazed μ (nI h)) (fun I' μ' => ST b P0 I0 μ0 P I' μ') := by
  unfold x1_razes m_isRazed
  refine ok2_jl (ok2_jr ?_)
  refine ok2_lp (fun s s' => ∃ w, w ≤ 4 ∧ s.1 = nI w ∧ s'.1 = nI w ∧ ST b P0 I0 μ0 P s.2 s'.2) (fun s => 4 - s.1.toNatClampNeg) ?_ fuel fuel _ _ ⟨0, by decide, rfl, rfl, S⟩ (by show 4 - (nI 0).toNatClampNeg < 20000; omega) (by show 4 - (nI 0).toNatClampNeg < 20000; omega)
  rintro again again' ⟨s1, I1⟩ ⟨s2, μ1⟩ ⟨w, hw, e1, e2, S1⟩ ih
  dsimp only at e1 e2 S1 ih ⊢
  subst e1
  subst e2
  refine ok2_ii Iff.rfl (fun _ _ => ?_) (fun c _ => ?_)
  · exact ok2_b (leaves2 A S1 hh) (fun I5 μ5 S5 => ok2_some S5)
  · have hw4 : w < 4 := by
      have := mt (nI_leI (a := 4) (b := w) (by omega) (by omega)).mpr c
      omega
    have hz : m_hasWall μ1 (nI h) (nI w) (nI 0) = some (up2 μ1 1 (7 + 4 * h + w) (nI 0)) := hw_eq hh hw4 (held_in _ (nI_le (Nat.le_refl _) (by decide)) (nI_le (by decide) (by decide)))
    rw [hz, Option.bind_some, ix_eq hh (by decide), Option.bind_some, wr_eq hw4 (by decide), Option.bind_some, nI_add, b_hut]
    refine ih _ _ ⟨w + 1, hw4, rfl, rfl, S1.wset hh hw4 (by decide)⟩ ?_
    rw [nI_clamp (by omega), nI_clamp (by omega)]
    omega
theorem nibbles2 (A : BA kd b n nt P0 I0 μ0) (S : ST b P0 I0 μ0 P I μ) {h w q v : Nat} (hh : h < 12) (hw : w < 4) (hq : q < 2 ^ 29) (ev : μ 1 (7 + 4 * h + w) = nI v) (hv : v ≤ 99) :
    ok2 (x1_nibbles kd P I b (nI h) (nI w) (nI q)) ((m_wallOf μ (nI h) (nI w)).bind fun r22 => (m_hasWall μ (nI h) (nI w) (r22 - (nI q))).bind fun r23 => (rd r23 1 115 (nI 5)).bind fun v24 => (wr r23 1 115 (nI 5) (v24 + (nI q))).bind fun μ25 => (m_notes μ25 (nI 0) (nI h) (nI q)).bind fun r26 => (m_areOut r26 (nI h)).bind fun r27 => some r27) (fun I' μ' => ST b P0 I0 μ0 P I' μ') := by
  unfold x1_nibbles
  rw [ix_eq hh (by decide), Option.bind_some, loses_x S hh hw ev hv hq, Option.bind_some]
  refine ok2_nl ?_
  have S1 := S.wset hh hw (show v - q ≤ 99 by omega)
  rw [wallOf_m _ hh hw, Option.bind_some, wl, ev, hw_less hh hw hv hq, Option.bind_some, rd_eq (by decide) (by decide), Option.bind_some, wr_eq (by decide) (by decide), Option.bind_some]
  dsimp only
  rw [S1.br.eaten]
  have S2 := S1.set (i := 5) (by omega) (by omega) rfl (x := up2 μ 1 (7 + 4 * h + w) (nI (v - q)) 1 5 + nI q) (rg_no _ (by omega) (by omega) (by omega) (by omega))
  refine ok2_b (notes2 S2 _ _ _) (fun I4 μ4 S4 => ?_)
  exact ok2_b (leaves2 A S4 hh) (fun I5 μ5 S5 => ok2_some S5)
end WED
