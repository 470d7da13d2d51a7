/-! ===== both objects between two calls ===== -/
/-- the model's cells in which nothing is kept -/
def scr (k : Nat) : Prop := k = 0 ∨ k = 4 ∨ (12 ≤ k ∧ k ≤ 15) ∨ (24 ≤ k ∧ k ≤ 30) ∨ (39 ≤ k ∧ k ≤ 41) ∨ k = 44 ∨ k = 47 ∨ k = 48 ∨ k = 56 ∨ k = 60 ∨ k = 61 ∨ k = 64 ∨ k = 65 ∨ k = 69 ∨ k = 70 ∨ k = 71 ∨ k = 73
/-- where an image has a cell -/
def ibs (k : Nat) : Nat := [0, 0, 0, 0, 0, 0, 115, 127, 128, 385, 0, 0, 0, 0, 0, 0, 0, 985, 986, 987, 988, 989, 1050, 1051, 0, 0, 0, 0, 0, 0, 0, 0, 0, 116, 257, 117, 305, 118, 129, 0, 0, 0, 119, 175, 0, 120, 184, 0, 0, 121, 224, 122, 185, 186, 123, 229, 0, 124, 245, 246, 0, 0, 125, 130, 0, 0, 126, 187, 188].getD k 0
def ist (k : Nat) : Nat := [0, 1, 0, 0, 0, 0, 1, 4, 4, 1, 0, 0, 0, 0, 0, 0, 0, 1, 4, 4, 4, 4, 2, 2, 0, 0, 0, 0, 0, 0, 0, 0, 0, 1, 1, 1, 1, 1, 4, 0, 0, 0, 1, 1, 0, 1, 5, 0, 0, 1, 1, 1, 5, 5, 1, 1, 0, 1, 2, 2, 0, 0, 1, 4, 0, 0, 1, 5, 5].getD k 0
def vw (μ : Mem) : Mem := fun k i => if k = 5 then 0 else μ 74 (ibs k + ist k * i)
/-- the words: the model's table -/
def wtab : List Nat := [32, 114, 101, 110, 116, 32, 103, 110, 97, 119, 115, 32, 109, 101, 108, 116, 115, 32, 119, 104, 101, 110, 32, 111, 114, 32, 97, 110, 100, 32, 110, 111, 116, 32, 119, 97, 108, 108, 32, 115, 117, 109, 32, 97, 108, 109, 111, 110, 100, 115, 32, 116, 101, 101, 116, 104, 32, 104, 97, 114, 100, 32, 105, 99, 105, 110, 103, 32, 108, 111, 100, 103, 101, 114, 115, 32, 100, 111, 111, 114, 32, 97, 103, 101, 32, 114, 97, 105, 110, 32, 102, 114, 111, 115, 116, 32, 113, 117, 97, 114, 116, 101, 114, 32, 105, 110, 32, 116, 104, 97, 119, 32, 105, 99, 101, 32, 98, 97, 107, 101, 32, 119, 101, 100, 32, 114, 97, 122, 101, 32, 104, 111, 117, 115, 101, 32, 110, 101, 120, 116, 32]
def TAP (z : Nat) (I μ : Mem) : Prop := ∃ t, t ≤ 400 ∧ I z 1 = nI t ∧ μ 11 0 = nI t ∧ ∀ i, i < t → ∃ c, c < 256 ∧ μ 10 i = nI c ∧ I (z + 1) i = (nI c).toInt8.toInt32
/-- a row that can be undone -/
def SAV (I μ : Mem) (β j : Nat) : Prop := (∀ i, i < 115 → I (xl β 1 i).1 (xl β 1 i).2 = μ 2 (115 * j + i) ∧ rg i (μ 2 (115 * j + i))) ∧ ∀ h, h < 12 → I (β + 245 + 2 * h) 1 = μ 7 h ∧ I (β + 245 + 2 * h) 2 = μ 8 h
def UND (z : Nat) (P : Ptr) (I μ : Mem) : Prop := ∃ m, m ≤ 6 ∧ I z 8 = nI m ∧ μ 3 0 = nI m ∧ ∃ π L : Nat → Nat, (∀ j, j < 6 → π j < 6 ∧ P (z + 809) j = some (z + 810 + 269 * π j)) ∧ (∀ i j, i < 6 → j < 6 → π i = π j → i = j) ∧ (∀ j, j < m → SAV I μ (z + 810 + 269 * π j) j ∧ μ 2 (115 * j + 2) = nI (L j) ∧ L j ≤ L (j + 1)) ∧ μ 1 2 = nI (L m) ∧ L m ≤ 150
def RR (z : Nat) (kd : Kd) (P : Ptr) (I μ : Mem) : Prop := (KI z kd) ∧ (BOR z (z + 2) kd P I μ) ∧ ((I z 9 = nI 0 ∧ μ 72 0 = nI 0) ∨ (I z 9 = nI 1 ∧ μ 72 0 = nI 1 ∧ BOR z (z + 271) kd P I (vw μ))) ∧ (I (z + 540) 23 = nI 1) ∧ (I (z + 271) 23 = nI 0) ∧ (UND z P I μ) ∧ (TAP z I μ) ∧ (I z 2 = μ 31 0 ∧ I z 3 = μ 32 0) ∧ (MEMO z I) ∧ (μ 69 0 = nI 0) ∧ (∀ i, i < 141 → μ 16 i = nI (wtab.getD i 0))
theorem RR.K {z : Nat} {kd : Kd} {P : Ptr} {I μ : Mem} (S : RR z kd P I μ) : KI z kd := S.1
theorem RR.bor {z : Nat} {kd : Kd} {P : Ptr} {I μ : Mem} (S : RR z kd P I μ) : BOR z (z + 2) kd P I μ := S.2.1
theorem RR.img {z : Nat} {kd : Kd} {P : Ptr} {I μ : Mem} (S : RR z kd P I μ) : (I z 9 = nI 0 ∧ μ 72 0 = nI 0) ∨ (I z 9 = nI 1 ∧ μ 72 0 = nI 1 ∧ BOR z (z + 271) kd P I (vw μ)) := S.2.2.1
theorem RR.th {z : Nat} {kd : Kd} {P : Ptr} {I μ : Mem} (S : RR z kd P I μ) : I (z + 540) 23 = nI 1 := S.2.2.2.1
theorem RR.tk {z : Nat} {kd : Kd} {P : Ptr} {I μ : Mem} (S : RR z kd P I μ) : I (z + 271) 23 = nI 0 := S.2.2.2.2.1
theorem RR.und {z : Nat} {kd : Kd} {P : Ptr} {I μ : Mem} (S : RR z kd P I μ) : UND z P I μ := S.2.2.2.2.2.1
theorem RR.tap {z : Nat} {kd : Kd} {P : Ptr} {I μ : Mem} (S : RR z kd P I μ) : TAP z I μ := S.2.2.2.2.2.2.1
theorem RR.flt {z : Nat} {kd : Kd} {P : Ptr} {I μ : Mem} (S : RR z kd P I μ) : I z 2 = μ 31 0 ∧ I z 3 = μ 32 0 := S.2.2.2.2.2.2.2.1
theorem RR.memo {z : Nat} {kd : Kd} {P : Ptr} {I μ : Mem} (S : RR z kd P I μ) : MEMO z I := S.2.2.2.2.2.2.2.2.1
theorem RR.w69 {z : Nat} {kd : Kd} {P : Ptr} {I μ : Mem} (S : RR z kd P I μ) : μ 69 0 = nI 0 := S.2.2.2.2.2.2.2.2.2.1
theorem RR.wrd {z : Nat} {kd : Kd} {P : Ptr} {I μ : Mem} (S : RR z kd P I μ) : ∀ i, i < 141 → μ 16 i = nI (wtab.getD i 0) := S.2.2.2.2.2.2.2.2.2.2
def FRX (z : Nat) (kd kd' : Kd) (P P' : Ptr) (I I' : Mem) : Prop := (KI z kd') ∧ (∀ a, z + 1 ≤ a → a < z + 540 → I' a = I a) ∧ (∀ a, z + 809 ≤ a → a < z + 2424 → I' a = I a) ∧ (∀ j, (1 ≤ j ∧ j ≤ 3) ∨ j = 8 ∨ j = 9 → I' z j = I z j) ∧ (I' (z + 540) 23 = I (z + 540) 23) ∧ (KEEP z kd kd' P P' I I') ∧ (∀ a, a = z + 2 ∨ a = z + 271 ∨ a = z + 809 → P' a = P a)
theorem FRX.k {z : Nat} {kd kd' : Kd} {P P' : Ptr} {I I' : Mem} (S : FRX z kd kd' P P' I I') : KI z kd' := S.1
theorem FRX.i1 {z : Nat} {kd kd' : Kd} {P P' : Ptr} {I I' : Mem} (S : FRX z kd kd' P P' I I') : ∀ a, z + 1 ≤ a → a < z + 540 → I' a = I a := S.2.1
theorem FRX.i2 {z : Nat} {kd kd' : Kd} {P P' : Ptr} {I I' : Mem} (S : FRX z kd kd' P P' I I') : ∀ a, z + 809 ≤ a → a < z + 2424 → I' a = I a := S.2.2.1
theorem FRX.iz {z : Nat} {kd kd' : Kd} {P P' : Ptr} {I I' : Mem} (S : FRX z kd kd' P P' I I') : ∀ j, (1 ≤ j ∧ j ≤ 3) ∨ j = 8 ∨ j = 9 → I' z j = I z j := S.2.2.2.1
theorem FRX.it {z : Nat} {kd kd' : Kd} {P P' : Ptr} {I I' : Mem} (S : FRX z kd kd' P P' I I') : I' (z + 540) 23 = I (z + 540) 23 := S.2.2.2.2.1
theorem FRX.kp {z : Nat} {kd kd' : Kd} {P P' : Ptr} {I I' : Mem} (S : FRX z kd kd' P P' I I') : KEEP z kd kd' P P' I I' := S.2.2.2.2.2.1
theorem FRX.p {z : Nat} {kd kd' : Kd} {P P' : Ptr} {I I' : Mem} (S : FRX z kd kd' P P' I I') : ∀ a, a = z + 2 ∨ a = z + 271 ∨ a = z + 809 → P' a = P a := S.2.2.2.2.2.2
def FRM (μ μ' : Mem) : Prop := ∀ k i, ¬ scr k → (k = 1 → i < 115) → μ' k i = μ k i
theorem rki_scr {k i : Nat} (h : rki k i) : ¬ scr k := by
  intro s
  unfold scr at s
  have : k = 0 ∨ k = 4 ∨ k = 12 ∨ k = 13 ∨ k = 14 ∨ k = 15 ∨ k = 24 ∨ k = 25 ∨ k = 26 ∨ k = 27 ∨ k = 28 ∨ k = 29 ∨ k = 30 ∨ k = 39 ∨ k = 40 ∨ k = 41 ∨ k = 44 ∨ k = 47 ∨ k = 48 ∨ k = 56 ∨ k = 60 ∨ k = 61 ∨ k = 64 ∨ k = 65 ∨ k = 69 ∨ k = 70 ∨ k = 71 ∨ k = 73 := by omega
  rcases this with rfl | rfl | rfl | rfl | rfl | rfl | rfl | rfl | rfl | rfl | rfl | rfl | rfl | rfl | rfl | rfl | rfl | rfl | rfl | rfl | rfl | rfl | rfl | rfl | rfl | rfl | rfl | rfl <;> exact absurd h (Nat.not_lt_zero _)
theorem FRM.rki {μ μ' : Mem} (h : FRM μ μ') {k i : Nat} (hr : rki k i) : μ' k i = μ k i := h k i (rki_scr hr) (by rintro rfl; exact hr)
theorem FRM.of {μ μ' : Mem} (h : ∀ k, ¬ scr k → μ' k = μ k) : FRM μ μ' := fun k i hk _ => by rw [h k hk]
section RRF
variable {z : Nat} {kd kd' : Kd} {P P' : Ptr} {I I' μ μ' : Mem}
theorem FRX.rf (K : KI z kd) : FRX z kd kd P P I I := ⟨K, fun _ _ _ => rfl, fun _ _ _ => rfl, fun _ _ => rfl, rfl, fun _ _ _ => ⟨rfl, rfl, rfl⟩, fun _ _ => rfl⟩
/-- only cells for thought were written -/
theorem FRX.scr (K : KI z kd) (h : ∀ a, (a < z + 2424 ∨ z + 2463 ≤ a) → I' a = I a) : FRX z kd kd P P I I' := ⟨K, fun a _ _ => h a (by omega), fun a _ _ => h a (by omega), fun j _ => by rw [h z (by omega)], by rw [h (z + 540) (by omega)], fun a _ ha => ⟨h a (by unfold IMM at ha; omega), rfl, rfl⟩, fun _ _ => rfl⟩
theorem vw_eq (h : μ' 74 = μ 74) : vw μ' = vw μ := by
  unfold vw
  rw [h]
theorem xl_back {z β k i : Nat} {p : Nat} (hp : p < 6) (e : β = z + 810 + 269 * p) (hm : mi k i) : z + 809 ≤ (xl β k i).1 ∧ (xl β k i).1 < z + 2424 := by
  have := xl_in (b := β) hm
  omega
theorem UND.frame (U : UND z P I μ) (h8 : I' z 8 = I z 8) (hI : ∀ a, z + 809 ≤ a → a < z + 2424 → I' a = I a) (hP : P' (z + 809) = P (z + 809)) (h2 : μ' 2 = μ 2) (h3 : μ' 3 0 = μ 3 0) (h7 : μ' 7 = μ 7) (h8' : μ' 8 = μ 8) (hl : ∀ l l', l ≤ 150 → l' ≤ 150 → μ 1 2 = nI l → μ' 1 2 = nI l' → l ≤ l') (hl2 : ∃ l, l ≤ 150 ∧ μ' 1 2 = nI l) : UND z P' I' μ' := by
  obtain ⟨m, hm, e1, e2, π, L, hπ, hi, hs, hL, hL2⟩ := U
  obtain ⟨l, hl5, el⟩ := hl2
  have hlL := hl _ _ hL2 hl5 hL el
  refine ⟨m, hm, by rw [h8]; exact e1, by rw [h3]; exact e2, π, fun j => if j = m then l else L j, fun j hj => by rw [hP]; exact hπ j hj, hi, fun j hj => ?_, by dsimp only; rw [if_pos rfl]; exact el, by dsimp only; rw [if_pos rfl]; exact hl5⟩
  obtain ⟨s1, s2, s3⟩ := hs j hj
  refine ⟨⟨fun i hi => ?_, fun h hh => ?_⟩, ?_, ?_⟩
  · have := xl_back (hπ j (by omega)).1 rfl (mi_row hi) (z := z)
    rw [hI _ this.1 this.2, h2]
    exact s1.1 i hi
  · have hp := (hπ j (by omega)).1
    rw [hI _ (by omega) (by omega), h7, h8']
    exact s1.2 h hh
  · dsimp only
    rw [if_neg (by omega), h2]; exact s2
  · dsimp only
    rw [if_neg (by omega)]
    by_cases e : j + 1 = m
    · rw [if_pos e]; rw [e] at s3; omega
    · rw [if_neg e]; exact s3
theorem RR.frame (R : RR z kd P I μ) (F : FRX z kd kd' P P' I I') (M : FRM μ μ') (hm : MEMO z I') (h69 : μ' 69 0 = nI 0) : RR z kd' P' I' μ' := by
  have nk : ∀ k, ¬ scr k → k ≠ 1 → μ' k = μ k := fun k h h1 => funext fun i => M k i h (fun e => absurd e h1)
  have e74 : vw μ' = vw μ := vw_eq (nk 74 (by unfold scr; omega) (by decide))
  have e12 : μ' 1 2 = μ 1 2 := M 1 2 (by unfold scr; omega) (fun _ => by decide)
  refine ⟨F.k, ?_, ?_, by rw [F.it]; exact R.th, by rw [F.i1 (z + 271) (by omega) (by omega)]; exact R.tk, ?_, ?_, ?_, hm, h69, fun i hi => by rw [nk 16 (by unfold scr; omega) (by decide)]; exact R.wrd i hi⟩
  · exact R.bor.cong R.K (fun a h1 h2 => F.i1 a (by omega) (by omega)) (fun j _ => by rw [F.i1 (z + 2) (by omega) (by omega)]) F.kp (fun j _ => by rw [F.p (z + 2) (Or.inl rfl)]) (fun k i h => M.rki h)
  · rcases R.img with ⟨a, b⟩ | ⟨a, b, c⟩
    · exact Or.inl ⟨by rw [F.iz 9 (by omega)]; exact a, by rw [nk 72 (by unfold scr; omega) (by decide)]; exact b⟩
    · refine Or.inr ⟨by rw [F.iz 9 (by omega)]; exact a, by rw [nk 72 (by unfold scr; omega) (by decide)]; exact b, ?_⟩
      exact c.cong R.K (fun a h1 h2 => F.i1 a (by omega) (by omega)) (fun j _ => by rw [F.i1 (z + 271) (by omega) (by omega)]) F.kp (fun j _ => by rw [F.p (z + 271) (Or.inr (Or.inl rfl))]) (fun k i h => by rw [e74])
  · obtain ⟨l, hl, el⟩ := R.bor.st.lines
    exact R.und.frame (F.iz 8 (by omega)) F.i2 (F.p _ (Or.inr (Or.inr rfl))) (nk 2 (by unfold scr; omega) (by decide)) (by rw [nk 3 (by unfold scr; omega) (by decide)]) (nk 7 (by unfold scr; omega) (by decide)) (nk 8 (by unfold scr; omega) (by decide)) (fun l l' h h' e e' => by rw [e12] at e'; exact ln_rfl l l' h h' e e') ⟨l, hl, by rw [e12]; exact el⟩
  · obtain ⟨t, ht, a, b, c⟩ := R.tap
    refine ⟨t, ht, by rw [F.iz 1 (by omega)]; exact a, by rw [nk 11 (by unfold scr; omega) (by decide)]; exact b, fun i hi => ?_⟩
    rw [F.i1 (z + 1) (by omega) (by omega), nk 10 (by unfold scr; omega) (by decide)]
    exact c i hi
  · rw [F.iz 2 (by omega), F.iz 3 (by omega), nk 31 (by unfold scr; omega) (by decide), nk 32 (by unfold scr; omega) (by decide)]
    exact R.flt
theorem RR.t0 (R : RR z kd P I μ) (x : Int32) : RR z kd P I (up2 μ 0 0 x) := R.frame (FRX.rf R.K) (FRM.of fun k hk => up2_k (fun e => hk (Or.inl e))) R.memo (by rw [up2_ne (by omega)]; exact R.w69)
/-- steps of the borough -/
theorem RR.step (R : RR z kd P I μ) (S : ST (z + 2) P I μ P' I' μ') : RR z kd P' I' μ' := by
  have fx : ∀ a, (a < z + 2 ∨ z + 271 ≤ a ∨ a = z + 3 ∨ a = z + 4 ∨ (z + 155 ≤ a ∧ a < z + 247)) → I' a = I a := fun a ha => S.fx a (by unfold chg; omega)
  have fp : ∀ a, a ≠ z + 2 → P' a = P a := fun a ha => funext fun j => S.fp a j (by omega)
  have fm : ∀ k, k ≠ 1 → k ≠ 9 → k ≠ 39 → k ≠ 40 → μ' k = μ k := S.fm
  have e74 : vw μ' = vw μ := vw_eq (fm 74 (by decide) (by decide) (by decide) (by decide))
  refine ⟨R.K, R.bor.step R.K (Or.inl rfl) S, ?_, by rw [fx (z + 540) (by omega)]; exact R.th, by rw [fx (z + 271) (by omega)]; exact R.tk, ?_, ?_, ?_, fun t h1 h2 h3 => by rw [fx (z + 2462) (by omega)]; exact R.memo t h1 h2 h3, by rw [fm 69 (by decide) (by decide) (by decide) (by decide)]; exact R.w69, fun i hi => by rw [fm 16 (by decide) (by decide) (by decide) (by decide)]; exact R.wrd i hi⟩
  · rcases R.img with ⟨a, b⟩ | ⟨a, b, c⟩
    · exact Or.inl ⟨by rw [fx z (by omega)]; exact a, by rw [fm 72 (by decide) (by decide) (by decide) (by decide)]; exact b⟩
    · refine Or.inr ⟨by rw [fx z (by omega)]; exact a, by rw [fm 72 (by decide) (by decide) (by decide) (by decide)]; exact b, ?_⟩
      exact c.cong R.K (fun a h1 h2 => fx a (by omega)) (fun j _ => by rw [fx (z + 271) (by omega)]) (fun a _ ha => ⟨fx a (by unfold IMM at ha; omega), fp a (by unfold IMM at ha; omega), rfl⟩) (fun j _ => by rw [fp (z + 271) (by omega)]) (fun k i h => by rw [e74])
  · exact R.und.frame (by rw [fx z (by omega)]) (fun a h1 h2 => fx a (by omega)) (fp _ (by omega)) (fm 2 (by decide) (by decide) (by decide) (by decide)) (by rw [fm 3 (by decide) (by decide) (by decide) (by decide)]) (fm 7 (by decide) (by decide) (by decide) (by decide)) (fm 8 (by decide) (by decide) (by decide) (by decide)) S.ln S.lines
  · obtain ⟨t, ht, a, b, c⟩ := R.tap
    refine ⟨t, ht, by rw [fx z (by omega)]; exact a, by rw [fm 11 (by decide) (by decide) (by decide) (by decide)]; exact b, fun i hi => ?_⟩
    rw [fx (z + 1) (by omega), fm 10 (by decide) (by decide) (by decide) (by decide)]
    exact c i hi
  · rw [fx z (by omega), fm 31 (by decide) (by decide) (by decide) (by decide), fm 32 (by decide) (by decide) (by decide) (by decide)]
    exact R.flt
/-- all that the borough now has, for its steps -/
theorem RR.all (R : RR z kd P I μ) : ∃ lw cl sk cs of co nt n, BA kd (z + 2) n nt P I μ ∧ BL kd (z + 2) sk cs of co P I μ ∧ BW kd (z + 2) lw cl P I μ ∧ IMM z nt := by
  obtain ⟨lw, cl, sk, cs, of, co, nt, p0, p1, p2, p3, L⟩ := R.bor.lws
  obtain ⟨n, hn, en⟩ := R.bor.n6
  obtain ⟨A, B, C⟩ := LWS.all R.K L (Or.inl rfl) p0 p1 p2 p3 hn en
  exact ⟨lw, cl, sk, cs, of, co, nt, n, A, B, C, L.ni⟩
/-- nothing can be undone any more -/
theorem RR.forget (R : RR z kd P I μ) : RR z kd P (up2 I z 8 (nI 0)) (up2 μ 3 0 (nI 0)) := by
  have fx : ∀ a, a ≠ z → up2 I z 8 (nI 0) a = I a := fun a ha => up2_k ha
  have fm : ∀ k, k ≠ 3 → up2 μ 3 0 (nI 0) k = μ k := fun k hk => up2_k hk
  have e74 : vw (up2 μ 3 0 (nI 0)) = vw μ := vw_eq (fm 74 (by decide))
  have hr3 : ∀ {k i : Nat}, rki k i → k ≠ 3 := fun h e => by subst e; exact absurd h (Nat.not_lt_zero _)
  refine ⟨R.K, ?_, ?_, by rw [fx (z + 540) (by omega)]; exact R.th, by rw [fx (z + 271) (by omega)]; exact R.tk, ?_, ?_, ?_, fun t h1 h2 h3 => by rw [fx (z + 2462) (by omega)]; exact R.memo t h1 h2 h3, by rw [fm 69 (by decide)]; exact R.w69, fun i hi => by rw [fm 16 (by decide)]; exact R.wrd i hi⟩
  · exact R.bor.cong R.K (fun a h1 h2 => fx a (by omega)) (fun j _ => by rw [fx (z + 2) (by omega)]) (fun a _ ha => ⟨fx a (by unfold IMM at ha; omega), rfl, rfl⟩) (fun j _ => rfl) (fun k i h => by rw [fm k (hr3 h)])
  · rcases R.img with ⟨a, b⟩ | ⟨a, b, c⟩
    · exact Or.inl ⟨by rw [up2_ne (by omega)]; exact a, by rw [fm 72 (by decide)]; exact b⟩
    · refine Or.inr ⟨by rw [up2_ne (by omega)]; exact a, by rw [fm 72 (by decide)]; exact b, ?_⟩
      exact c.cong R.K (fun a h1 h2 => fx a (by omega)) (fun j _ => by rw [fx (z + 271) (by omega)]) (fun a _ ha => ⟨fx a (by unfold IMM at ha; omega), rfl, rfl⟩) (fun j _ => rfl) (fun k i h => by rw [e74])
  · obtain ⟨m, hm, e1, e2, π, L, hπ, hi, hs, hL, hL2⟩ := R.und
    exact ⟨0, by decide, up2_same _ _ _ _, up2_same _ _ _ _, π, fun _ => L m, hπ, hi, fun j hj => by omega, by rw [fm 1 (by decide)]; exact hL, hL2⟩
  · obtain ⟨t, ht, a, b, c⟩ := R.tap
    refine ⟨t, ht, by rw [up2_ne (by omega)]; exact a, by rw [fm 11 (by decide)]; exact b, fun i hi => ?_⟩
    rw [fx (z + 1) (by omega), fm 10 (by decide)]
    exact c i hi
  · rw [up2_ne (show z ≠ z ∨ (2 : Nat) ≠ 8 by omega), up2_ne (show z ≠ z ∨ (3 : Nat) ≠ 8 by omega), fm 31 (by decide), fm 32 (by decide)]
    exact R.flt
end RRF
