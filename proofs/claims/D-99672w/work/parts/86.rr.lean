/-! ===== both objects, whole ===== -/
/-- where a borough's lists, their lines and entries, and its rows of neighbours may lie -/
def IMM (z a : Nat) : Prop := (z + 243 ≤ a ∧ a < z + 247) ∨ (z + 512 ≤ a ∧ a < z + 516) ∨ z + 2508 ≤ a
/-- the model's cells that count -/
def rl (k : Nat) : Nat := [0, 115, 0, 0, 0, 1, 1, 12, 12, 600, 0, 0, 0, 0, 0, 0, 0, 1, 16, 16, 16, 16, 400, 400, 0, 0, 0, 0, 0, 0, 0, 0, 0, 1, 48, 1, 80, 1, 12, 0, 0, 0, 1, 9, 0, 1, 8, 0, 0, 1, 5, 1, 8, 8, 1, 16, 0, 1, 6, 6, 0, 0, 1, 12, 0, 0, 1, 8, 8, 0, 0, 0, 0, 0, 0].getD k 0
def rki (k i : Nat) : Prop := i < rl k
def LLine (z : Nat) (kd : Kd) (P0 : Ptr) (I0 μ0 : Mem) (i e : Nat) : Prop := kd e = (11, 0, 0) ∧ IMM z e ∧ (∃ q, q ≤ 2 ∧ I0 e 0 = nI (7 + q) ∧ μ0 18 i = nI q) ∧ ∃ a c, c ≤ 400 ∧ μ0 19 i = nI a ∧ μ0 20 i = nI c ∧ (∃ t, P0 e 1 = some t ∧ TM kd P0 I0 μ0 420 t a c) ∧ ((P0 e 2 = none ∧ μ0 21 i = nI c) ∨ ∃ t f, P0 e 2 = some t ∧ f ≤ 400 ∧ μ0 21 i = nI f ∧ TB kd P0 I0 μ0 420 t c f)
def LSky (z : Nat) (kd : Kd) (I0 μ0 : Mem) (i e : Nat) : Prop := IMM z e ∧ I0 e 0 = μ0 34 (3 * i) ∧ ((kd e = (12, 0, 0) ∧ μ0 34 (3 * i + 1) = nI 0 ∧ I0 e 1 = μ0 34 (3 * i + 2)) ∨ (kd e = (13, 0, 0) ∧ ((μ0 34 (3 * i + 1) = nI 1 ∧ I0 e 1 = nI 1) ∨ (μ0 34 (3 * i + 1) = nI 2 ∧ I0 e 1 = nI 0))))
def LOff (z : Nat) (kd : Kd) (I0 μ0 : Mem) (i e : Nat) : Prop := IMM z e ∧ I0 e 0 = μ0 36 (5 * i) ∧ ∃ h, h < 12 ∧ I0 e 1 = nI h ∧ μ0 36 (5 * i + 2) = nI h ∧ ((kd e = (14, 0, 0) ∧ μ0 36 (5 * i + 1) = nI 0 ∧ I0 e 2 = μ0 36 (5 * i + 4)) ∨ (kd e = (15, 0, 0) ∧ μ0 36 (5 * i + 1) = nI 1 ∧ ∃ w q, w < 4 ∧ q ≤ 99 ∧ I0 e 2 = nI w ∧ μ0 36 (5 * i + 3) = nI w ∧ I0 e 3 = nI q ∧ μ0 36 (5 * i + 4) = nI q) ∨ (kd e = (16, 0, 0) ∧ μ0 36 (5 * i + 1) = nI 2) ∨ (kd e = (17, 0, 0) ∧ μ0 36 (5 * i + 1) = nI 3))
/-- a list -/
def LSI (z : Nat) (kd : Kd) (P : Ptr) (I : Mem) (ls c : Nat) (E : Nat → Nat → Prop) : Prop := IMM z ls ∧ kd ls = (18, 0, 0) ∧ I ls 2 = nI c ∧ c ≤ 16 ∧ ∀ i, i < c → ∃ ar e, IMM z ar ∧ P ls 1 = some ar ∧ (kd ar).1 = 25 ∧ c ≤ (kd ar).2.1 ∧ (kd ar).2.1 < 2 ^ 31 ∧ P ar i = some e ∧ E i e
def LWS (z : Nat) (kd : Kd) (P : Ptr) (I μ : Mem) (lw cl sk cs of co nt : Nat) : Prop := (LSI z kd P I lw cl (LLine z kd P I μ)) ∧ (μ 17 0 = nI cl) ∧ (LSI z kd P I sk cs (LSky z kd I μ)) ∧ (μ 33 0 = nI cs) ∧ (LSI z kd P I of co (LOff z kd I μ)) ∧ (μ 35 0 = nI co) ∧ (IMM z nt) ∧ (kd nt = (20, 12, 0)) ∧ (∀ h, h < 12 → I nt h = μ 38 h) ∧ (∀ h, h < 12 → ∃ m, m < 4096 ∧ μ 38 h = nI m)
theorem LWS.ll {z : Nat} {kd : Kd} {P : Ptr} {I μ : Mem} {lw cl sk cs of co nt : Nat} (S : LWS z kd P I μ lw cl sk cs of co nt) : LSI z kd P I lw cl (LLine z kd P I μ) := S.1
theorem LWS.lm {z : Nat} {kd : Kd} {P : Ptr} {I μ : Mem} {lw cl sk cs of co nt : Nat} (S : LWS z kd P I μ lw cl sk cs of co nt) : μ 17 0 = nI cl := S.2.1
theorem LWS.sl {z : Nat} {kd : Kd} {P : Ptr} {I μ : Mem} {lw cl sk cs of co nt : Nat} (S : LWS z kd P I μ lw cl sk cs of co nt) : LSI z kd P I sk cs (LSky z kd I μ) := S.2.2.1
theorem LWS.sm {z : Nat} {kd : Kd} {P : Ptr} {I μ : Mem} {lw cl sk cs of co nt : Nat} (S : LWS z kd P I μ lw cl sk cs of co nt) : μ 33 0 = nI cs := S.2.2.2.1
theorem LWS.ol {z : Nat} {kd : Kd} {P : Ptr} {I μ : Mem} {lw cl sk cs of co nt : Nat} (S : LWS z kd P I μ lw cl sk cs of co nt) : LSI z kd P I of co (LOff z kd I μ) := S.2.2.2.2.1
theorem LWS.om {z : Nat} {kd : Kd} {P : Ptr} {I μ : Mem} {lw cl sk cs of co nt : Nat} (S : LWS z kd P I μ lw cl sk cs of co nt) : μ 35 0 = nI co := S.2.2.2.2.2.1
theorem LWS.ni {z : Nat} {kd : Kd} {P : Ptr} {I μ : Mem} {lw cl sk cs of co nt : Nat} (S : LWS z kd P I μ lw cl sk cs of co nt) : IMM z nt := S.2.2.2.2.2.2.1
theorem LWS.nk {z : Nat} {kd : Kd} {P : Ptr} {I μ : Mem} {lw cl sk cs of co nt : Nat} (S : LWS z kd P I μ lw cl sk cs of co nt) : kd nt = (20, 12, 0) := S.2.2.2.2.2.2.2.1
theorem LWS.ne {z : Nat} {kd : Kd} {P : Ptr} {I μ : Mem} {lw cl sk cs of co nt : Nat} (S : LWS z kd P I μ lw cl sk cs of co nt) : ∀ h, h < 12 → I nt h = μ 38 h := S.2.2.2.2.2.2.2.2.1
theorem LWS.nr {z : Nat} {kd : Kd} {P : Ptr} {I μ : Mem} {lw cl sk cs of co nt : Nat} (S : LWS z kd P I μ lw cl sk cs of co nt) : ∀ h, h < 12 → ∃ m, m < 4096 ∧ μ 38 h = nI m := S.2.2.2.2.2.2.2.2.2
/-- kinds -/
def KI (z : Nat) (kd : Kd) : Prop := (Shp z kd) ∧ (kd z = (0, 0, 0)) ∧ (∀ a, 7 ≤ (kd a).1 → (kd a).1 ≤ 17 → z + 2508 ≤ a) ∧ (∀ h, h < 12 → kd (z + 247 + 2 * h) = (3, 0, 0) ∧ kd (z + 516 + 2 * h) = (3, 0, 0) ∧ kd (z + 785 + 2 * h) = (3, 0, 0)) ∧ (∀ j, j < 6 → kd (z + 810 + 269 * j) = (1, 0, 0))
theorem KI.sh {z : Nat} {kd : Kd} (S : KI z kd) : Shp z kd := S.1
theorem KI.kz {z : Nat} {kd : Kd} (S : KI z kd) : kd z = (0, 0, 0) := S.2.1
theorem KI.kt {z : Nat} {kd : Kd} (S : KI z kd) : ∀ a, 7 ≤ (kd a).1 → (kd a).1 ≤ 17 → z + 2508 ≤ a := S.2.2.1
theorem KI.kh {z : Nat} {kd : Kd} (S : KI z kd) : ∀ h, h < 12 → kd (z + 247 + 2 * h) = (3, 0, 0) ∧ kd (z + 516 + 2 * h) = (3, 0, 0) ∧ kd (z + 785 + 2 * h) = (3, 0, 0) := S.2.2.2.1
theorem KI.kb {z : Nat} {kd : Kd} (S : KI z kd) : ∀ j, j < 6 → kd (z + 810 + 269 * j) = (1, 0, 0) := S.2.2.2.2
/-- rows that were told: many and one array, or two -/
def R1 (I ν : Mem) (a len km k1 lo hi : Nat) : Prop := ∃ c, c ≤ len ∧ I a 1 = nI c ∧ ν km 0 = nI c ∧ ∀ i, i < c → I (a + 2 + i) 0 = ν k1 i ∧ ∃ v, lo ≤ v ∧ v ≤ hi ∧ ν k1 i = nI v
def R2 (I ν : Mem) (a len km k1 k2 lo hi lo2 hi2 : Nat) : Prop := ∃ c, c ≤ len ∧ I a 1 = nI c ∧ ν km 0 = nI c ∧ ∀ i, i < c → (I (a + 2 + i) 0 = ν k1 i ∧ I (a + 2 + i) 1 = ν k2 i) ∧ (∃ v, lo ≤ v ∧ v ≤ hi ∧ ν k1 i = nI v) ∧ ∃ v, lo2 ≤ v ∧ v ≤ hi2 ∧ ν k2 i = nI v
/-- who is ahead of q: the first row that tells it -/
def RH (I ν : Mem) (a : Nat) : Prop := ∃ c, c ≤ 12 ∧ I a 1 = nI c ∧ ν 62 0 = nI c ∧ (∀ i, i < c → ∃ p q, p < 12 ∧ q < 12 ∧ I (a + 2 + i) 0 = nI p ∧ I (a + 2 + i) 1 = nI q) ∧ ∀ p, p < 12 → (ν 63 p = nI 0 ∧ ∀ i, i < c → ¬ I (a + 2 + i) 0 = nI p) ∨ ∃ i q, i < c ∧ q < 12 ∧ I (a + 2 + i) 0 = nI p ∧ (∀ j, j < i → ¬ I (a + 2 + j) 0 = nI p) ∧ I (a + 2 + i) 1 = nI q ∧ ν 63 p = nI (q + 1)
/-- a borough of x's, all of it -/
def BOR (z b : Nat) (kd : Kd) (P : Ptr) (I ν : Mem) : Prop := (BR I b ν) ∧ (∀ i, i < 115 → rg i (ν 1 i)) ∧ (∀ l, l ≤ 150 → ν 1 2 = nI l → ∀ i k, i < l → k < 4 → I (b + 3 + i) k = ν 9 (4 * i + k)) ∧ (ν 5 0 = 0) ∧ (∃ n, n ≤ 12 ∧ ν 6 0 = nI n) ∧ (I b 22 = ν 37 0) ∧ (∃ lw cl sk cs of co nt, P b 10 = some lw ∧ P b 11 = some sk ∧ P b 12 = some of ∧ P b 13 = some nt ∧ LWS z kd P I ν lw cl sk cs of co nt) ∧ (R1 I ν (b + 153) 9 42 43 0 99) ∧ (R1 I ν (b + 164) 8 45 46 1 30) ∧ (R1 I ν (b + 174) 5 49 50 1 60) ∧ (R2 I ν (b + 181) 8 51 52 53 0 255 0 9) ∧ (R1 I ν (b + 191) 16 54 55 0 3) ∧ (R2 I ν (b + 209) 6 57 58 59 1 30 1 30) ∧ (RH I ν (b + 217)) ∧ (R2 I ν (b + 231) 8 66 67 68 0 4095 1 9)
theorem BOR.br {z b : Nat} {kd : Kd} {P : Ptr} {I ν : Mem} (S : BOR z b kd P I ν) : BR I b ν := S.1
theorem BOR.rgs {z b : Nat} {kd : Kd} {P : Ptr} {I ν : Mem} (S : BOR z b kd P I ν) : ∀ i, i < 115 → rg i (ν 1 i) := S.2.1
theorem BOR.bk {z b : Nat} {kd : Kd} {P : Ptr} {I ν : Mem} (S : BOR z b kd P I ν) : ∀ l, l ≤ 150 → ν 1 2 = nI l → ∀ i k, i < l → k < 4 → I (b + 3 + i) k = ν 9 (4 * i + k) := S.2.2.1
theorem BOR.t5 {z b : Nat} {kd : Kd} {P : Ptr} {I ν : Mem} (S : BOR z b kd P I ν) : ν 5 0 = 0 := S.2.2.2.1
theorem BOR.n6 {z b : Nat} {kd : Kd} {P : Ptr} {I ν : Mem} (S : BOR z b kd P I ν) : ∃ n, n ≤ 12 ∧ ν 6 0 = nI n := S.2.2.2.2.1
theorem BOR.nl {z b : Nat} {kd : Kd} {P : Ptr} {I ν : Mem} (S : BOR z b kd P I ν) : I b 22 = ν 37 0 := S.2.2.2.2.2.1
theorem BOR.lws {z b : Nat} {kd : Kd} {P : Ptr} {I ν : Mem} (S : BOR z b kd P I ν) : ∃ lw cl sk cs of co nt, P b 10 = some lw ∧ P b 11 = some sk ∧ P b 12 = some of ∧ P b 13 = some nt ∧ LWS z kd P I ν lw cl sk cs of co nt := S.2.2.2.2.2.2.1
theorem BOR.pieces {z b : Nat} {kd : Kd} {P : Ptr} {I ν : Mem} (S : BOR z b kd P I ν) : R1 I ν (b + 153) 9 42 43 0 99 := S.2.2.2.2.2.2.2.1
theorem BOR.doughs {z b : Nat} {kd : Kd} {P : Ptr} {I ν : Mem} (S : BOR z b kd P I ν) : R1 I ν (b + 164) 8 45 46 1 30 := S.2.2.2.2.2.2.2.2.1
theorem BOR.marks {z b : Nat} {kd : Kd} {P : Ptr} {I ν : Mem} (S : BOR z b kd P I ν) : R1 I ν (b + 174) 5 49 50 1 60 := S.2.2.2.2.2.2.2.2.2.1
theorem BOR.bites {z b : Nat} {kd : Kd} {P : Ptr} {I ν : Mem} (S : BOR z b kd P I ν) : R2 I ν (b + 181) 8 51 52 53 0 255 0 9 := S.2.2.2.2.2.2.2.2.2.2.1
theorem BOR.crumbs {z b : Nat} {kd : Kd} {P : Ptr} {I ν : Mem} (S : BOR z b kd P I ν) : R1 I ν (b + 191) 16 54 55 0 3 := S.2.2.2.2.2.2.2.2.2.2.2.1
theorem BOR.loaves {z b : Nat} {kd : Kd} {P : Ptr} {I ν : Mem} (S : BOR z b kd P I ν) : R2 I ν (b + 209) 6 57 58 59 1 30 1 30 := S.2.2.2.2.2.2.2.2.2.2.2.2.1
theorem BOR.heirs {z b : Nat} {kd : Kd} {P : Ptr} {I ν : Mem} (S : BOR z b kd P I ν) : RH I ν (b + 217) := S.2.2.2.2.2.2.2.2.2.2.2.2.2.1
theorem BOR.members {z b : Nat} {kd : Kd} {P : Ptr} {I ν : Mem} (S : BOR z b kd P I ν) : R2 I ν (b + 231) 8 66 67 68 0 4095 1 9 := S.2.2.2.2.2.2.2.2.2.2.2.2.2.2
section RRs
variable {z b : Nat} {kd : Kd} {P P0 P' : Ptr} {I I0 I' ν ν' μ μ0 : Mem}
theorem BOR.st (B : BOR z b kd P I ν) : ST b P I ν P I ν := ⟨B.br, B.rgs, fun _ => B.bk, fun h => absurd B.t5 h, fun _ _ => rfl, fun _ _ _ => rfl, fun _ _ _ _ _ => rfl, fun _ _ _ => rfl, ln_rfl⟩
theorem imm_chg (hb : b = z + 2 ∨ b = z + 271 ∨ b = z + 540) {a : Nat} (h : IMM z a) : ¬ chg b a := by
  unfold IMM at h
  unfold chg
  omega
theorem LSI.to {ls c : Nat} {E E' : Nat → Nat → Prop} (L : LSI z kd P I ls c E) (hE : ∀ i e, E i e → E' i e) : LST kd P I ls c E' := by
  obtain ⟨_, h2, h3, h4, h5⟩ := L
  refine ⟨h2, h3, h4, fun i hi => ?_⟩
  obtain ⟨ar, e, a0, a1, a2, a3, a4, a5, a6⟩ := h5 i hi
  exact ⟨ar, e, a1, a2, a3, a4, a5, hE i e a6⟩
/-- the lists, to a borough that has them -/
theorem LWS.all {lw cl sk cs of co nt n : Nat} (K : KI z kd) (L : LWS z kd P I ν lw cl sk cs of co nt) (hb : b = z + 2 ∨ b = z + 271 ∨ b = z + 540) (p0 : P b 10 = some lw) (p1 : P b 11 = some sk) (p2 : P b 12 = some of) (p3 : P b 13 = some nt) (hn : n ≤ 12) (en : ν 6 0 = nI n) :
    BA kd b n nt P I ν ∧ BL kd b sk cs of co P I ν ∧ BW kd b lw cl P I ν := by
  have im : ∀ {a}, IMM z a → ¬ chg b a := fun h => imm_chg hb h
  refine ⟨⟨hn, en, p3, L.nk, im L.ni, L.ne, L.nr⟩, ⟨p1, im L.sl.1, L.sl.to (fun i e h => ⟨im h.1, h.2⟩), L.sm, p2, im L.ol.1, L.ol.to (fun i e h => ⟨im h.1, h.2⟩), L.om⟩, ⟨p0, im L.ll.1, L.ll.to (fun i e h => ⟨h.1, im h.2.1, h.2.2⟩), L.lm, fun h hh => ?_, fun a ha => ?_⟩⟩
  · have := K.kh h hh
    rcases hb with rfl | rfl | rfl
    · exact this.1
    · exact this.2.1
    · exact this.2.2
  · have hl : ¬ z + 2508 ≤ a := by
      unfold chg at ha
      omega
    refine ⟨fun e => hl (K.kt a ?_ ?_), fun e => hl (K.kt a ?_ ?_), fun e => hl (K.kt a ?_ ?_), fun e => hl (K.kt a ?_ ?_)⟩ <;> rw [e] <;> decide
/-- terms, told by cells -/
theorem TM_in {kd' : Kd} (h : ∀ t, (kd t = (7, 0, 0) ∨ kd t = (8, 0, 0) ∨ kd t = (9, 0, 0) ∨ kd t = (10, 0, 0)) → I' t = I t ∧ P' t = P t ∧ kd' t = kd t) (hν : ∀ i, i < 400 → ν' 22 i = ν 22 i ∧ ν' 23 i = ν 23 i) : ∀ (d t a c : Nat), a < c → c ≤ 400 → TM kd P I ν d t a c → TM kd' P' I' ν' d t a c := by
  intro d
  induction d with
  | zero => intro t a c _ _ h; exact h
  | succ d ih =>
    intro t a c hac hc q
    unfold TM at q ⊢
    rcases q with ⟨kt, q⟩ | ⟨kt, q⟩ | ⟨kt, l, r, m, e, hl, hr, tl, tr, e1, e2, e3, hop⟩
    · have ht := h t (Or.inl kt)
      rw [ht.1, ht.2.2, (hν a (by omega)).1, (hν a (by omega)).2]; exact Or.inl ⟨kt, q⟩
    · have ht := h t (Or.inr (Or.inl kt))
      rw [ht.1, ht.2.2, (hν a (by omega)).1, (hν a (by omega)).2]; exact Or.inr (Or.inl ⟨kt, q⟩)
    · have ht := h t (Or.inr (Or.inr (Or.inl kt)))
      rw [ht.1, ht.2.2]
      refine Or.inr (Or.inr ⟨kt, l, r, m, e, by rw [ht.2.1]; exact hl, by rw [ht.2.1]; exact hr, ih _ _ _ e2 (by omega) tl, ih _ _ _ e3 (by omega) tr, e1, e2, e3, ?_⟩)
      rw [(hν e (by omega)).1]
      rcases hop with q | q | q | q | q | q | q
      · exact Or.inl q
      · exact Or.inr (Or.inl q)
      · exact Or.inr (Or.inr (Or.inl q))
      · have hr := h r (Or.inl q.2.2.1)
        exact Or.inr (Or.inr (Or.inr (Or.inl ⟨q.1, q.2.1, by rw [hr.2.2]; exact q.2.2.1, by rw [hr.1]; exact q.2.2.2⟩)))
      · exact Or.inr (Or.inr (Or.inr (Or.inr (Or.inl q))))
      · exact Or.inr (Or.inr (Or.inr (Or.inr (Or.inr (Or.inl q)))))
      · exact Or.inr (Or.inr (Or.inr (Or.inr (Or.inr (Or.inr q)))))
theorem TB_in {kd' : Kd} (h : ∀ t, (kd t = (7, 0, 0) ∨ kd t = (8, 0, 0) ∨ kd t = (9, 0, 0) ∨ kd t = (10, 0, 0)) → I' t = I t ∧ P' t = P t ∧ kd' t = kd t) (hν : ∀ i, i < 400 → ν' 22 i = ν 22 i ∧ ν' 23 i = ν 23 i) : ∀ (d t a c : Nat), a < c → c ≤ 400 → TB kd P I ν d t a c → TB kd' P' I' ν' d t a c := by
  intro d
  induction d with
  | zero => intro t a c _ _ h; exact h
  | succ d ih =>
    intro t a c hac hc q
    unfold TB at q ⊢
    rcases q with ⟨kt, l, r, m, e, hl, hr, e1, e2, e3, hop⟩ | ⟨kt, l, e, hl, tl, e1, e2, q⟩
    · have ht := h t (Or.inr (Or.inr (Or.inl kt)))
      rw [ht.1, ht.2.2]
      refine Or.inl ⟨kt, l, r, m, e, by rw [ht.2.1]; exact hl, by rw [ht.2.1]; exact hr, e1, e2, e3, ?_⟩
      rw [(hν e (by omega)).1]
      rcases hop with ⟨tl, tr, q⟩ | ⟨tl, tr, q⟩
      · exact Or.inl ⟨TM_in h hν _ _ _ _ e2 (by omega) tl, TM_in h hν _ _ _ _ e3 (by omega) tr, q⟩
      · exact Or.inr ⟨ih _ _ _ e2 (by omega) tl, ih _ _ _ e3 (by omega) tr, q⟩
    · have ht := h t (Or.inr (Or.inr (Or.inr kt)))
      rw [ht.2.2]
      exact Or.inr ⟨kt, l, e, by rw [ht.2.1]; exact hl, ih _ _ _ e2 (by omega) tl, e1, e2, by rw [(hν e (by omega)).1]; exact q⟩
end RRs
