/-! ===== what is asked ===== -/
section ASK
variable {kd : Kd} {b n nt lw cl : Nat} {P0 P : Ptr} {I0 μ0 I μ : Mem}
def askT (μ : Mem) (h : Nat) (v : Int32) (q : Nat) : Int32 :=
  if q = 0 then v else if q = 1 then sm μ h else if q = 2 then μ 7 h else if q = 3 then μ 8 h else if q = 4 then μ 1 (55 + h) else if q = 5 then μ 1 (67 + h) else if q = 6 then μ 1 (79 + h) else if q = 7 then μ 1 (91 + h) else if q = 8 then μ 1 (103 + h) else if q = 9 then μ 1 3 else if q = 10 then μ 1 4 else μ 1 0
theorem asks_m (μ : Mem) {h : Nat} (hh : h < 12) (v : Int32) : ∃ μA, m_asks μ (nI h) v = some μA ∧ (∀ k, k ≠ 39 → μA k = μ k) ∧ ∀ q, q < 12 → μA 39 q = askT μ h v q := by
  have hs : ∀ x : Int32, m_sumOf (up2 μ 39 0 x) (nI h) = some (sm μ h) := fun x => by
    rw [sum_m _ hh]
    unfold sm wl
    simp (disch := omega) only [up2_same, up2_ne]
  unfold m_asks
  rw [wr_eq (i := 0) (by decide) (by decide), Option.bind_some, hs]
  simp (disch := omega) only [jn, nm, Option.bind_some, nI_add, pk_mul, rd_eq, wr_eq, ix_eq]
  refine ⟨_, rfl, fun k hk => ?_, fun q hq => ?_⟩
  · rw [up2_k hk, up2_k hk, up2_k hk, up2_k hk, up2_k hk, up2_k hk, up2_k hk, up2_k hk, up2_k hk, up2_k hk, up2_k hk, up2_k hk]
  · have : q = 0 ∨ q = 1 ∨ q = 2 ∨ q = 3 ∨ q = 4 ∨ q = 5 ∨ q = 6 ∨ q = 7 ∨ q = 8 ∨ q = 9 ∨ q = 10 ∨ q = 11 := by omega
    rcases this with rfl | rfl | rfl | rfl | rfl | rfl | rfl | rfl | rfl | rfl | rfl | rfl
    all_goals simp (disch := omega) only [up2_same, up2_ne]
    all_goals rfl
theorem facts (W : BW kd b lw cl P0 I0 μ0) (S : ST b P0 I0 μ0 P I μ) {h w : Nat} (hh : h < 12) (hw : w < 4) {μA : Mem} (hA : ∀ q, q < 12 → μA 39 q = askT μ h (μ 1 (7 + 4 * h + w)) q) : FC kd (upP P b 24 (some (b + 245 + 2 * h))) (up2 I b 25 (nI w)) μA b := by
  intro q hq
  rw [hA q hq]
  have S1 := S.ask (ν := μ) (fun _ _ _ => rfl) (some (b + 245 + 2 * h)) (nI w)
  have hp := pk_of (kd := kd) (upP_same P b 24 (some (b + 245 + 2 * h))) (W.hk h hh)
  unfold x1_fact
  rw [hp]
  have i25 : up2 I b 25 (nI w) b 25 = nI w := up2_same _ _ _ _
  have : q = 0 ∨ q = 1 ∨ q = 2 ∨ q = 3 ∨ q = 4 ∨ q = 5 ∨ q = 6 ∨ q = 7 ∨ q = 8 ∨ q = 9 ∨ q = 10 ∨ q = 11 := by omega
  rcases this with rfl | rfl | rfl | rfl | rfl | rfl | rfl | rfl | rfl | rfl | rfl | rfl
  · rw [if_pos rfl, Option.bind_some, i25, rd_eq hw (by decide), Option.bind_some, b_hut, S1.br.wall hh hw]; rfl
  · rw [if_neg (by decide), if_pos rfl, Option.bind_some, bsm S1.br hh]; rfl
  · rw [if_neg (by decide), if_neg (by decide), if_pos rfl, Option.bind_some, S1.br.almonds hh]; rfl
  · rw [if_neg (by decide), if_neg (by decide), if_neg (by decide), if_pos rfl, Option.bind_some, S1.br.teeth hh]; rfl
  · rw [if_neg (by decide), if_neg (by decide), if_neg (by decide), if_neg (by decide), if_pos rfl, Option.bind_some, S1.br.hard hh]; rfl
  · rw [if_neg (by decide), if_neg (by decide), if_neg (by decide), if_neg (by decide), if_neg (by decide), if_pos rfl, Option.bind_some, S1.br.icing hh]; rfl
  · rw [if_neg (by decide), if_neg (by decide), if_neg (by decide), if_neg (by decide), if_neg (by decide), if_neg (by decide), if_pos rfl, Option.bind_some, S1.br.lodgers hh]; rfl
  · rw [if_neg (by decide), if_neg (by decide), if_neg (by decide), if_neg (by decide), if_neg (by decide), if_neg (by decide), if_neg (by decide), if_pos rfl, Option.bind_some, S1.br.door hh]
    show _ = some (μ 1 (91 + h))
    rcases (S.rgs (91 + h) (by omega)).2.1 (by omega) (by omega) with e | e
    · rw [e, if_pos nI_0]
    · rw [e, if_neg (by decide)]
  · rw [if_neg (by decide), if_neg (by decide), if_neg (by decide), if_neg (by decide), if_neg (by decide), if_neg (by decide), if_neg (by decide), if_neg (by decide), if_pos rfl, Option.bind_some, S1.br.age hh]; rfl
  · rw [if_neg (by decide), if_neg (by decide), if_neg (by decide), if_neg (by decide), if_neg (by decide), if_neg (by decide), if_neg (by decide), if_neg (by decide), if_neg (by decide), if_pos rfl, S1.br.rain]; rfl
  · rw [if_neg (by decide), if_neg (by decide), if_neg (by decide), if_neg (by decide), if_neg (by decide), if_neg (by decide), if_neg (by decide), if_neg (by decide), if_neg (by decide), if_neg (by decide), if_pos rfl, S1.br.frost]; rfl
  · rw [if_neg (by decide), if_neg (by decide), if_neg (by decide), if_neg (by decide), if_neg (by decide), if_neg (by decide), if_neg (by decide), if_neg (by decide), if_neg (by decide), if_neg (by decide), if_neg (by decide), S1.br.quarter]; rfl
theorem TL_of (W : BW kd b lw cl P0 I0 μ0) : TL kd b P0 I0 μ0 := by
  intro P I μ S h hh
  have fin : ∀ {o : Option (Int32 × Ptr × Mem)} {p : Option (Int32 × Mem)} {m : Nat}, ok2 o p (TQ b P0 I0 μ0 μ m) → ok2 (o.bind fun r => some (r.1, r.2.1, r.2.2)) (p.bind fun r => some (r.1, r.2)) (TQ b P0 I0 μ0 μ m) := by
    intro o p m h
    obtain ⟨r, t, e1, e2, h⟩ := h
    rw [e1, e2, Option.bind_some, Option.bind_some]
    exact ok2_some h
  refine ⟨?_, fun w hw => ?_, fun w hw => ?_⟩
  · have hw := tk_lt (wl μ h)
    obtain ⟨μA, a1, a2, a3⟩ := asks_m μ hh (wl μ h (tk (wl μ h)))
    unfold x1_rent m_rentOf
    rw [btk S.br hh, Option.bind_some, thick_m μ hh, Option.bind_some, wallOf_m μ hh hw, Option.bind_some, a1, Option.bind_some, nI_add, rd_eq (i := 79 + h) (by omega) (by decide), Option.bind_some, a2 1 (by decide), S.br.lodgers hh]
    exact fin (tells2 W S hh (q := 0) (by decide) (by decide) a2 (facts W S hh hw a3) _)
  · obtain ⟨μA, a1, a2, a3⟩ := asks_m μ hh (wl μ h w)
    unfold x1_gnaws m_gnawsOf
    rw [wallOf_m μ hh hw, Option.bind_some, a1, Option.bind_some, nI_add, rd_eq (i := 55 + h) (by omega) (by decide), Option.bind_some, a2 1 (by decide), S.br.hard hh]
    exact fin (tells2 W S hh (q := 1) (by decide) (by decide) a2 (facts W S hh hw a3) _)
  · obtain ⟨μA, a1, a2, a3⟩ := asks_m μ hh (wl μ h w)
    unfold x1_melts m_meltsOf
    rw [wallOf_m μ hh hw, Option.bind_some, a1, Option.bind_some, rd_eq (i := 3) (by omega) (by decide), Option.bind_some, nI_add, rd_eq (i := 55 + h) (by omega) (by decide), Option.bind_some, a2 1 (by decide), S.br.hard hh, S.br.rain]
    exact fin (tells2 W S hh (q := 2) (by decide) (by decide) a2 (facts W S hh hw a3) _)
end ASK
