
/-! ===== G: a pure computation refined by the machine (own work) ===== -/
/-- an end: the counters (cells, slots) there, and what is asked of the machine's state -/
abbrev En : Type := (Nat × Nat) × (State → Prop)
/-- a loop by fuel: the body is given what goes on with the next turn -/
def lp {S R : Type} (body : (S → Option R) → S → Option R) : Nat → S → Option R
  | 0, _ => none
  | n + 1, s => body (lp body n) s
/-- a join: k is what comes behind it -/
def jn {S R : Type} (k : S → Option R) (f : (S → Option R) → Option R) : Option R := f k
/-- a name for a value -/
def nm {α R : Type} (e : α) (k : α → Option R) : Option R := k e
/-- turns of any loop here -/
def fuel : Nat := 20000
def bI (b : Bool) : Int32 := if b then 1 else 0
def ush (x y : Int32) : Int32 := (x.toUInt32 >>> (y.toUInt32 &&& Int32.toUInt32 31)).toInt32
def irm (x y : Int32) : Int32 := x - x / y * y
def idivO (x y : Int32) : Option Int32 := if y = 0 then none else some (x / y)
def iremO (x y : Int32) : Option Int32 := if y = 0 then none else some (irm x y)
def G (p : Program) (l : Launch) (e : Env) (fr lo : Nat) (s : State) (m : MethodId) (args : Array Value) (below : List Frame) (meth : Method) (c : Code) (nL : Nat) (c0 : Nat × Nat) {S O : Type} (Rep : S → Heap → Prop) (cnt : S → Nat × Nat) (A : Nat → Prop) (pc : Nat) (ls : List (Nat × Value)) (st : List Value) (σ : S) (q : O → En) (o : Option O) : Prop :=
  ∀ out, o = some out → c0.1 ≤ (cnt σ).1 → c0.2 ≤ (cnt σ).2 → ((cnt σ).1 ≤ (q out).1.1 ∧ (cnt σ).2 ≤ (q out).1.2) ∧
    ∀ (H : Heap) (locs : List Loc) (la : Array Slot), Rep σ H → va_S A s.heap H locs → lv_has la nL ls →
      W p l e ({ frames := fr, cells := (q out).1.1 - c0.1, slots := (q out).1.2 - c0.2, locals := lo }) s m args below meth c H locs ((cnt σ).1 - c0.1) ((cnt σ).2 - c0.2) (q out).2 (F0 m pc la st)
section GR
variable {p : Program} {l : Launch} {e : Env} {fr lo : Nat} {s : State} {m : MethodId} {args : Array Value} {below : List Frame} {meth : Method} {c : Code} {nL : Nat} {c0 : Nat × Nat} {S O : Type} {Rep : S → Heap → Prop} {cnt : S → Nat × Nat} {A : Nat → Prop} {pc : Nat} {ls : List (Nat × Value)} {st : List Value} {σ : S} {q : O → En} {o : Option O} {cc : ByteArray} {own : String} {Ts : List Cond}
theorem G.map {pc' : Nat} {ls' : List (Nat × Value)} {st' : List Value}
    (h : ∀ (R : Room) (H : Heap) (locs : List Loc) (ce sl : Nat) (Q : State → Prop) (la : Array Slot), lv_has la nL ls → (∀ la', lv_has la' nL ls' → W p l e R s m args below meth c H locs ce sl Q (F0 m pc' la' st')) → W p l e R s m args below meth c H locs ce sl Q (F0 m pc la st))
    (g : G p l e fr lo s m args below meth c nL c0 Rep cnt A pc' ls' st' σ q o) : G p l e fr lo s m args below meth c nL c0 Rep cnt A pc ls st σ q o :=
  fun out ho h1 h2 => ⟨(g out ho h1 h2).1, fun H locs la hR hS hl => h _ H locs _ _ _ la hl (fun la' hl' => (g out ho h1 h2).2 H locs la' hR hS hl')⟩
theorem g_none : G p l e fr lo s m args below meth c nL c0 Rep cnt A pc ls st σ q (none : Option O) := fun out ho => by cases ho
/-- fewer locals -/
theorem g_sub {ls' : List (Nat × Value)} (ks : List Nat) (hk : lv_pick ls ks = ls') (g : G p l e fr lo s m args below meth c nL c0 Rep cnt A pc ls' st σ q o) : G p l e fr lo s m args below meth c nL c0 Rep cnt A pc ls st σ q o :=
  G.map (fun _ _ _ _ _ _ la hl k => k la (lv_sub hl ks hk)) g
theorem g_lp {Sg : Type} {head : Nat} {L : Sg → List (Nat × Value)} {sf : Sg → List Value} {mf : Sg → S} {body : (Sg → Option O) → Sg → Option O}
    (h : ∀ again : Sg → Option O, (∀ j, G p l e fr lo s m args below meth c nL c0 Rep cnt A head (L j) (sf j) (mf j) q (again j)) → ∀ j, G p l e fr lo s m args below meth c nL c0 Rep cnt A head (L j) (sf j) (mf j) q (body again j)) :
    ∀ (n : Nat) (j : Sg), G p l e fr lo s m args below meth c nL c0 Rep cnt A head (L j) (sf j) (mf j) q (lp body n j) := by
  intro n
  induction n with
  | zero => intro j; exact g_none
  | succ n ih => intro j; exact h (lp body n) ih j
theorem g_jn {Sg : Type} {head : Nat} {L : Sg → List (Nat × Value)} {sf : Sg → List Value} {mf : Sg → S} {k : Sg → Option O} {f : (Sg → Option O) → Option O}
    (hk : ∀ j, G p l e fr lo s m args below meth c nL c0 Rep cnt A head (L j) (sf j) (mf j) q (k j))
    (hf : ∀ k' : Sg → Option O, (∀ j, G p l e fr lo s m args below meth c nL c0 Rep cnt A head (L j) (sf j) (mf j) q (k' j)) → G p l e fr lo s m args below meth c nL c0 Rep cnt A pc ls st σ q (f k')) :
    G p l e fr lo s m args below meth c nL c0 Rep cnt A pc ls st σ q (jn k f) := hf k hk
theorem g_nm {x : Int32} {k : Int32 → Option O} (g : ∀ v, v = x → G p l e fr lo s m args below meth c nL c0 Rep cnt A pc ls (.int v :: st) σ q (k v)) : G p l e fr lo s m args below meth c nL c0 Rep cnt A pc ls (.int x :: st) σ q (nm x k) := g x rfl

theorem g_iconst (K : CallFix p m c cc nL s args Ts own) {i : Int} (v : Int32) (hv : Int32.ofInt i = v) (n : Nat) (hd : decode cc pc = .ok (.iconst i, 1)) (hn : pc + 1 = n) (g : G p l e fr lo s m args below meth c nL c0 Rep cnt A n ls (.int v :: st) σ q o) : G p l e fr lo s m args below meth c nL c0 Rep cnt A pc ls (st) σ q o := by
  subst hn
  exact G.map (fun R H locs ce sl Q la hl k => lv_iconst K.1 K.2.1 hd hv (k la hl)) g
theorem g_bipush (K : CallFix p m c cc nL s args Ts own) {i : Int} (v : Int32) (hv : (Int8.ofInt i).toInt32 = v) (n : Nat) (hd : decode cc pc = .ok (.bipush i, 2)) (hn : pc + 2 = n) (g : G p l e fr lo s m args below meth c nL c0 Rep cnt A n ls (.int v :: st) σ q o) : G p l e fr lo s m args below meth c nL c0 Rep cnt A pc ls (st) σ q o := by
  subst hn
  exact G.map (fun R H locs ce sl Q la hl k => lv_bipush K.1 K.2.1 hd hv (k la hl)) g
theorem g_sipush (K : CallFix p m c cc nL s args Ts own) {i : Int} (v : Int32) (hv : (Int16.ofInt i).toInt32 = v) (n : Nat) (hd : decode cc pc = .ok (.sipush i, 3)) (hn : pc + 3 = n) (g : G p l e fr lo s m args below meth c nL c0 Rep cnt A n ls (.int v :: st) σ q o) : G p l e fr lo s m args below meth c nL c0 Rep cnt A pc ls (st) σ q o := by
  subst hn
  exact G.map (fun R H locs ce sl Q la hl k => lv_sipush K.1 K.2.1 hd hv (k la hl)) g
theorem g_ldc (K : CallFix p m c cc nL s args Ts own) {index : Nat} {v : Int32} (hw : Cond.constant own index v ∈ Ts) (n : Nat) (hd : decode cc pc = .ok (.ldc index, 2)) (hn : pc + 2 = n) (g : G p l e fr lo s m args below meth c nL c0 Rep cnt A n ls (.int v :: st) σ q o) : G p l e fr lo s m args below meth c nL c0 Rep cnt A pc ls (st) σ q o := by
  subst hn
  exact G.map (fun R H locs ce sl Q la hl k => lv_ldc K.1 K.2.1 K.2.2.2.1 (K.2.2.2.2 _ hw) hd (k la hl)) g
theorem g_ldcw (K : CallFix p m c cc nL s args Ts own) {index : Nat} {v : Int32} (hw : Cond.constant own index v ∈ Ts) (n : Nat) (hd : decode cc pc = .ok (.ldc_w index, 3)) (hn : pc + 3 = n) (g : G p l e fr lo s m args below meth c nL c0 Rep cnt A n ls (.int v :: st) σ q o) : G p l e fr lo s m args below meth c nL c0 Rep cnt A pc ls (st) σ q o := by
  subst hn
  exact G.map (fun R H locs ce sl Q la hl k => lv_ldcw K.1 K.2.1 K.2.2.2.1 (K.2.2.2.2 _ hw) hd (k la hl)) g
theorem g_iloadn (K : CallFix p m c cc nL s args Ts own) {f : Fin 4} {i : Nat} {x : Int32} (j : Nat) (hf : (f : Nat) = i) (hj : ls[j]? = some (i, .int x)) (n : Nat) (hd : decode cc pc = .ok (.iload_n f, 1)) (hn : pc + 1 = n) (g : G p l e fr lo s m args below meth c nL c0 Rep cnt A n ls (.int x :: st) σ q o) : G p l e fr lo s m args below meth c nL c0 Rep cnt A pc ls (st) σ q o := by
  subst hn
  exact G.map (fun R H locs ce sl Q la hl k => lv_iload_n K.1 K.2.1 hd hf (lv_at hl j hj) (k la hl)) g
theorem g_iload (K : CallFix p m c cc nL s args Ts own) {i : Nat} {x : Int32} (j : Nat) (hj : ls[j]? = some (i, .int x)) (n : Nat) (hd : decode cc pc = .ok (.iload i, 2)) (hn : pc + 2 = n) (g : G p l e fr lo s m args below meth c nL c0 Rep cnt A n ls (.int x :: st) σ q o) : G p l e fr lo s m args below meth c nL c0 Rep cnt A pc ls (st) σ q o := by
  subst hn
  exact G.map (fun R H locs ce sl Q la hl k => lv_iload K.1 K.2.1 hd (lv_at hl j hj) (k la hl)) g
theorem g_aloadn (K : CallFix p m c cc nL s args Ts own) {f : Fin 4} {i : Nat} {x : Nat} (j : Nat) (hf : (f : Nat) = i) (hj : ls[j]? = some (i, .ref x)) (n : Nat) (hd : decode cc pc = .ok (.aload_n f, 1)) (hn : pc + 1 = n) (g : G p l e fr lo s m args below meth c nL c0 Rep cnt A n ls (.ref x :: st) σ q o) : G p l e fr lo s m args below meth c nL c0 Rep cnt A pc ls (st) σ q o := by
  subst hn
  exact G.map (fun R H locs ce sl Q la hl k => lv_aload_n K.1 K.2.1 hd hf (lv_at hl j hj) (k la hl)) g
theorem g_aload (K : CallFix p m c cc nL s args Ts own) {i : Nat} {x : Nat} (j : Nat) (hj : ls[j]? = some (i, .ref x)) (n : Nat) (hd : decode cc pc = .ok (.aload i, 2)) (hn : pc + 2 = n) (g : G p l e fr lo s m args below meth c nL c0 Rep cnt A n ls (.ref x :: st) σ q o) : G p l e fr lo s m args below meth c nL c0 Rep cnt A pc ls (st) σ q o := by
  subst hn
  exact G.map (fun R H locs ce sl Q la hl k => lv_aload K.1 K.2.1 hd (lv_at hl j hj) (k la hl)) g
theorem g_istoren (K : CallFix p m c cc nL s args Ts own) {f : Fin 4} {i : Nat} {x : Int32} (ls1 : List (Nat × Value)) (ks : List Nat) (hf : (f : Nat) = i) (hi : i < nL) (hk : lv_pick ((i, Value.int x) :: ls.filter (fun q => !(q.1 == i) && !(q.1 + 1 == i && q.2.category == 2))) ks = ls1) (n : Nat) (hd : decode cc pc = .ok (.istore_n f, 1)) (hn : pc + 1 = n) (g : G p l e fr lo s m args below meth c nL c0 Rep cnt A n ls1 (st) σ q o) : G p l e fr lo s m args below meth c nL c0 Rep cnt A pc ls (.int x :: st) σ q o := by
  subst hn
  exact G.map (fun R H locs ce sl Q la hl k => lv_istore_n K.1 K.2.1 hd hf hl hi rfl (fun la2 h2 => k la2 (lv_sub h2 ks hk))) g
theorem g_astoren (K : CallFix p m c cc nL s args Ts own) {f : Fin 4} {i : Nat} {x : Nat} (ls1 : List (Nat × Value)) (ks : List Nat) (hf : (f : Nat) = i) (hi : i < nL) (hk : lv_pick ((i, Value.ref x) :: ls.filter (fun q => !(q.1 == i) && !(q.1 + 1 == i && q.2.category == 2))) ks = ls1) (n : Nat) (hd : decode cc pc = .ok (.astore_n f, 1)) (hn : pc + 1 = n) (g : G p l e fr lo s m args below meth c nL c0 Rep cnt A n ls1 (st) σ q o) : G p l e fr lo s m args below meth c nL c0 Rep cnt A pc ls (.ref x :: st) σ q o := by
  subst hn
  exact G.map (fun R H locs ce sl Q la hl k => lv_astore_n K.1 K.2.1 hd hf hl hi rfl (fun la2 h2 => k la2 (lv_sub h2 ks hk))) g
theorem g_istore (K : CallFix p m c cc nL s args Ts own) {i : Nat} {x : Int32} (ls1 : List (Nat × Value)) (ks : List Nat) (hi : i < nL) (hk : lv_pick ((i, Value.int x) :: ls.filter (fun q => !(q.1 == i) && !(q.1 + 1 == i && q.2.category == 2))) ks = ls1) (n : Nat) (hd : decode cc pc = .ok (.istore i, 2)) (hn : pc + 2 = n) (g : G p l e fr lo s m args below meth c nL c0 Rep cnt A n ls1 (st) σ q o) : G p l e fr lo s m args below meth c nL c0 Rep cnt A pc ls (.int x :: st) σ q o := by
  subst hn
  exact G.map (fun R H locs ce sl Q la hl k => lv_istore K.1 K.2.1 hd hl hi rfl (fun la2 h2 => k la2 (lv_sub h2 ks hk))) g
theorem g_astore (K : CallFix p m c cc nL s args Ts own) {i : Nat} {x : Nat} (ls1 : List (Nat × Value)) (ks : List Nat) (hi : i < nL) (hk : lv_pick ((i, Value.ref x) :: ls.filter (fun q => !(q.1 == i) && !(q.1 + 1 == i && q.2.category == 2))) ks = ls1) (n : Nat) (hd : decode cc pc = .ok (.astore i, 2)) (hn : pc + 2 = n) (g : G p l e fr lo s m args below meth c nL c0 Rep cnt A n ls1 (st) σ q o) : G p l e fr lo s m args below meth c nL c0 Rep cnt A pc ls (.ref x :: st) σ q o := by
  subst hn
  exact G.map (fun R H locs ce sl Q la hl k => lv_astore K.1 K.2.1 hd hl hi rfl (fun la2 h2 => k la2 (lv_sub h2 ks hk))) g
theorem g_iinc (K : CallFix p m c cc nL s args Ts own) {i : Nat} {d : Int} {x : Int32} (v : Int32) (j : Nat) (ls1 : List (Nat × Value)) (ks : List Nat) (hj : ls[j]? = some (i, .int x)) (hv : x + Int32.ofInt d = v) (hi : i < nL) (hk : lv_pick ((i, Value.int v) :: ls.filter (fun q => !(q.1 == i) && !(q.1 + 1 == i && q.2.category == 2))) ks = ls1) (n : Nat) (hd : decode cc pc = .ok (.iinc i d, 3)) (hn : pc + 3 = n) (g : G p l e fr lo s m args below meth c nL c0 Rep cnt A n ls1 (st) σ q o) : G p l e fr lo s m args below meth c nL c0 Rep cnt A pc ls (st) σ q o := by
  subst hn
  exact G.map (fun R H locs ce sl Q la hl k => lv_iinc K.1 K.2.1 hd hl hj hv hi rfl (fun la2 h2 => k la2 (lv_sub h2 ks hk))) g
theorem g_iadd (K : CallFix p m c cc nL s args Ts own) {x y : Int32} (n : Nat) (hd : decode cc pc = .ok (.iadd, 1)) (hn : pc + 1 = n) (g : G p l e fr lo s m args below meth c nL c0 Rep cnt A n ls (.int (x + y) :: st) σ q o) : G p l e fr lo s m args below meth c nL c0 Rep cnt A pc ls (.int y :: .int x :: st) σ q o := by
  subst hn
  exact G.map (fun R H locs ce sl Q la hl k => lv_iadd K.1 K.2.1 hd (k la hl)) g
theorem g_isub (K : CallFix p m c cc nL s args Ts own) {x y : Int32} (n : Nat) (hd : decode cc pc = .ok (.isub, 1)) (hn : pc + 1 = n) (g : G p l e fr lo s m args below meth c nL c0 Rep cnt A n ls (.int (x - y) :: st) σ q o) : G p l e fr lo s m args below meth c nL c0 Rep cnt A pc ls (.int y :: .int x :: st) σ q o := by
  subst hn
  exact G.map (fun R H locs ce sl Q la hl k => lv_isub K.1 K.2.1 hd (k la hl)) g
theorem g_imul (K : CallFix p m c cc nL s args Ts own) {x y : Int32} (n : Nat) (hd : decode cc pc = .ok (.imul, 1)) (hn : pc + 1 = n) (g : G p l e fr lo s m args below meth c nL c0 Rep cnt A n ls (.int (x * y) :: st) σ q o) : G p l e fr lo s m args below meth c nL c0 Rep cnt A pc ls (.int y :: .int x :: st) σ q o := by
  subst hn
  exact G.map (fun R H locs ce sl Q la hl k => lv_imul K.1 K.2.1 hd (k la hl)) g
theorem g_iand (K : CallFix p m c cc nL s args Ts own) {x y : Int32} (n : Nat) (hd : decode cc pc = .ok (.iand, 1)) (hn : pc + 1 = n) (g : G p l e fr lo s m args below meth c nL c0 Rep cnt A n ls (.int (x &&& y) :: st) σ q o) : G p l e fr lo s m args below meth c nL c0 Rep cnt A pc ls (.int y :: .int x :: st) σ q o := by
  subst hn
  exact G.map (fun R H locs ce sl Q la hl k => lv_iand K.1 K.2.1 hd (k la hl)) g
theorem g_ior (K : CallFix p m c cc nL s args Ts own) {x y : Int32} (n : Nat) (hd : decode cc pc = .ok (.ior, 1)) (hn : pc + 1 = n) (g : G p l e fr lo s m args below meth c nL c0 Rep cnt A n ls (.int (x ||| y) :: st) σ q o) : G p l e fr lo s m args below meth c nL c0 Rep cnt A pc ls (.int y :: .int x :: st) σ q o := by
  subst hn
  exact G.map (fun R H locs ce sl Q la hl k => lv_ior K.1 K.2.1 hd (k la hl)) g
theorem g_ixor (K : CallFix p m c cc nL s args Ts own) {x y : Int32} (n : Nat) (hd : decode cc pc = .ok (.ixor, 1)) (hn : pc + 1 = n) (g : G p l e fr lo s m args below meth c nL c0 Rep cnt A n ls (.int (x ^^^ y) :: st) σ q o) : G p l e fr lo s m args below meth c nL c0 Rep cnt A pc ls (.int y :: .int x :: st) σ q o := by
  subst hn
  exact G.map (fun R H locs ce sl Q la hl k => lv_ixor K.1 K.2.1 hd (k la hl)) g
theorem g_ishl (K : CallFix p m c cc nL s args Ts own) {x y : Int32} (n : Nat) (hd : decode cc pc = .ok (.ishl, 1)) (hn : pc + 1 = n) (g : G p l e fr lo s m args below meth c nL c0 Rep cnt A n ls (.int (x <<< (y &&& 31)) :: st) σ q o) : G p l e fr lo s m args below meth c nL c0 Rep cnt A pc ls (.int y :: .int x :: st) σ q o := by
  subst hn
  exact G.map (fun R H locs ce sl Q la hl k => lv_ishl K.1 K.2.1 hd (k la hl)) g
theorem g_ishr (K : CallFix p m c cc nL s args Ts own) {x y : Int32} (n : Nat) (hd : decode cc pc = .ok (.ishr, 1)) (hn : pc + 1 = n) (g : G p l e fr lo s m args below meth c nL c0 Rep cnt A n ls (.int (x >>> (y &&& 31)) :: st) σ q o) : G p l e fr lo s m args below meth c nL c0 Rep cnt A pc ls (.int y :: .int x :: st) σ q o := by
  subst hn
  exact G.map (fun R H locs ce sl Q la hl k => lv_ishr K.1 K.2.1 hd (k la hl)) g
theorem g_ineg (K : CallFix p m c cc nL s args Ts own) {x : Int32} (n : Nat) (hd : decode cc pc = .ok (.ineg, 1)) (hn : pc + 1 = n) (g : G p l e fr lo s m args below meth c nL c0 Rep cnt A n ls (.int (-x) :: st) σ q o) : G p l e fr lo s m args below meth c nL c0 Rep cnt A pc ls (.int x :: st) σ q o := by
  subst hn
  exact G.map (fun R H locs ce sl Q la hl k => lv_ineg K.1 K.2.1 hd (k la hl)) g
theorem g_i2b (K : CallFix p m c cc nL s args Ts own) {x : Int32} (n : Nat) (hd : decode cc pc = .ok (.i2b, 1)) (hn : pc + 1 = n) (g : G p l e fr lo s m args below meth c nL c0 Rep cnt A n ls (.int x.toInt8.toInt32 :: st) σ q o) : G p l e fr lo s m args below meth c nL c0 Rep cnt A pc ls (.int x :: st) σ q o := by
  subst hn
  exact G.map (fun R H locs ce sl Q la hl k => lv_i2b K.1 K.2.1 hd rfl (k la hl)) g
theorem g_iushr (K : CallFix p m c cc nL s args Ts own) {x y : Int32} (n : Nat) (hd : decode cc pc = .ok (.iushr, 1)) (hn : pc + 1 = n) (g : G p l e fr lo s m args below meth c nL c0 Rep cnt A n ls (.int (ush x y) :: st) σ q o) : G p l e fr lo s m args below meth c nL c0 Rep cnt A pc ls (.int y :: .int x :: st) σ q o := by
  subst hn
  exact G.map (fun R H locs ce sl Q la hl k => lv_iushr K.1 K.2.1 hd rfl (k la hl)) g
theorem g_dup (K : CallFix p m c cc nL s args Ts own) {v : Value} (hv : v.category = 1) (n : Nat) (hd : decode cc pc = .ok (.dup, 1)) (hn : pc + 1 = n) (g : G p l e fr lo s m args below meth c nL c0 Rep cnt A n ls (v :: v :: st) σ q o) : G p l e fr lo s m args below meth c nL c0 Rep cnt A pc ls (v :: st) σ q o := by
  subst hn
  exact G.map (fun R H locs ce sl Q la hl k => lv_dup K.1 K.2.1 hd hv (k la hl)) g
theorem g_null (K : CallFix p m c cc nL s args Ts own)  (n : Nat) (hd : decode cc pc = .ok (.aconst_null, 1)) (hn : pc + 1 = n) (g : G p l e fr lo s m args below meth c nL c0 Rep cnt A n ls (.null :: st) σ q o) : G p l e fr lo s m args below meth c nL c0 Rep cnt A pc ls (st) σ q o := by
  subst hn
  exact G.map (fun R H locs ce sl Q la hl k => lv_null K.1 K.2.1 hd (k la hl)) g
theorem g_pop (K : CallFix p m c cc nL s args Ts own) {v : Value} (hv : v.category = 1) (n : Nat) (hd : decode cc pc = .ok (.pop, 1)) (hn : pc + 1 = n) (g : G p l e fr lo s m args below meth c nL c0 Rep cnt A n ls (st) σ q o) : G p l e fr lo s m args below meth c nL c0 Rep cnt A pc ls (v :: st) σ q o := by
  subst hn
  exact G.map (fun R H locs ce sl Q la hl k => lv_pop K.1 K.2.1 hd hv (k la hl)) g
theorem g_dup2 (K : CallFix p m c cc nL s args Ts own) {v w : Value} (hv : v.category = 1) (hw : w.category = 1) (n : Nat) (hd : decode cc pc = .ok (.dup2, 1)) (hn : pc + 1 = n) (g : G p l e fr lo s m args below meth c nL c0 Rep cnt A n ls (v :: w :: v :: w :: st) σ q o) : G p l e fr lo s m args below meth c nL c0 Rep cnt A pc ls (v :: w :: st) σ q o := by
  subst hn
  exact G.map (fun R H locs ce sl Q la hl k => lv_dup2_11 K.1 K.2.1 hd hv hw (k la hl)) g
theorem g_dup_x1 (K : CallFix p m c cc nL s args Ts own) {v w : Value} (hv : v.category = 1) (hw : w.category = 1) (n : Nat) (hd : decode cc pc = .ok (.dup_x1, 1)) (hn : pc + 1 = n) (g : G p l e fr lo s m args below meth c nL c0 Rep cnt A n ls (v :: w :: v :: st) σ q o) : G p l e fr lo s m args below meth c nL c0 Rep cnt A pc ls (v :: w :: st) σ q o := by
  subst hn
  exact G.map (fun R H locs ce sl Q la hl k => lv_dup_x1 K.1 K.2.1 hd hv hw (k la hl)) g
theorem g_idiv (K : CallFix p m c cc nL s args Ts own) {x y : Int32} {k : Int32 → Option O} (n : Nat) (hd : decode cc pc = .ok (.idiv, 1)) (hn : pc + 1 = n) (g : ∀ v, v = (x / y) → ¬ y = 0 → G p l e fr lo s m args below meth c nL c0 Rep cnt A n ls (.int v :: st) σ q (k v)) : G p l e fr lo s m args below meth c nL c0 Rep cnt A pc ls (.int y :: .int x :: st) σ q ((idivO x y).bind k) := by
  subst hn
  intro out ho h1 h2
  by_cases hy : y = 0
  · simp [idivO, hy] at ho
  · have ho' : k (x / y) = some out := by simpa [idivO, hy] using ho
    have g' := g _ rfl hy out ho' h1 h2
    exact ⟨g'.1, fun H locs la hR hS hl => lv_idiv K.1 K.2.1 hd hy (g'.2 H locs la hR hS hl)⟩
theorem g_irem (K : CallFix p m c cc nL s args Ts own) {x y : Int32} {k : Int32 → Option O} (n : Nat) (hd : decode cc pc = .ok (.irem, 1)) (hn : pc + 1 = n) (g : ∀ v, v = (irm x y) → ¬ y = 0 → G p l e fr lo s m args below meth c nL c0 Rep cnt A n ls (.int v :: st) σ q (k v)) : G p l e fr lo s m args below meth c nL c0 Rep cnt A pc ls (.int y :: .int x :: st) σ q ((iremO x y).bind k) := by
  subst hn
  intro out ho h1 h2
  by_cases hy : y = 0
  · simp [iremO, hy] at ho
  · have ho' : k (irm x y) = some out := by simpa [iremO, hy] using ho
    have g' := g _ rfl hy out ho' h1 h2
    exact ⟨g'.1, fun H locs la hR hS hl => lv_irem K.1 K.2.1 hd hy (g'.2 H locs la hR hS hl)⟩
theorem g_icmp_ne (K : CallFix p m c cc nL s args Ts own) {x y : Int32} {off : Int} {o1 o2 : Option O} {inst : Decidable (x = y)} (n t : Nat) (hd : decode cc pc = .ok (.if_icmp .ne off, 3)) (hn : pc + 3 = n) (ht : (pc : Int) + off = (t : Int)) (gf : x = y → G p l e fr lo s m args below meth c nL c0 Rep cnt A n ls st σ q o1) (gt : ¬ (x = y) → G p l e fr lo s m args below meth c nL c0 Rep cnt A t ls st σ q o2) : G p l e fr lo s m args below meth c nL c0 Rep cnt A pc ls (.int y :: .int x :: st) σ q (@ite _ (x = y) inst o1 o2) := by
  subst hn
  intro out ho h1 h2
  by_cases hc : x = y
  · rw [if_pos hc] at ho
    have g' := gf hc out ho h1 h2
    exact ⟨g'.1, fun H locs la hR hS hl => lv_icmp_ne K.1 K.2.1 hd ht (fun h => absurd hc h) (fun _ => g'.2 H locs la hR hS hl)⟩
  · rw [if_neg hc] at ho
    have g' := gt hc out ho h1 h2
    exact ⟨g'.1, fun H locs la hR hS hl => lv_icmp_ne K.1 K.2.1 hd ht (fun _ => g'.2 H locs la hR hS hl) (fun h => absurd h hc)⟩
theorem g_if_ne (K : CallFix p m c cc nL s args Ts own) {x : Int32} {off : Int} {o1 o2 : Option O} {inst : Decidable (x = 0)} (n t : Nat) (hd : decode cc pc = .ok (.ifCond .ne off, 3)) (hn : pc + 3 = n) (ht : (pc : Int) + off = (t : Int)) (gf : x = 0 → G p l e fr lo s m args below meth c nL c0 Rep cnt A n ls st σ q o1) (gt : ¬ (x = 0) → G p l e fr lo s m args below meth c nL c0 Rep cnt A t ls st σ q o2) : G p l e fr lo s m args below meth c nL c0 Rep cnt A pc ls (.int x :: st) σ q (@ite _ (x = 0) inst o1 o2) := by
  subst hn
  intro out ho h1 h2
  by_cases hc : x = 0
  · rw [if_pos hc] at ho
    have g' := gf hc out ho h1 h2
    exact ⟨g'.1, fun H locs la hR hS hl => lv_if_ne K.1 K.2.1 hd ht (fun h => absurd hc h) (fun _ => g'.2 H locs la hR hS hl)⟩
  · rw [if_neg hc] at ho
    have g' := gt hc out ho h1 h2
    exact ⟨g'.1, fun H locs la hR hS hl => lv_if_ne K.1 K.2.1 hd ht (fun _ => g'.2 H locs la hR hS hl) (fun h => absurd h hc)⟩
theorem g_icmp_eq (K : CallFix p m c cc nL s args Ts own) {x y : Int32} {off : Int} {o1 o2 : Option O} {inst : Decidable (x = y)} (n t : Nat) (hd : decode cc pc = .ok (.if_icmp .eq off, 3)) (hn : pc + 3 = n) (ht : (pc : Int) + off = (t : Int)) (gt : x = y → G p l e fr lo s m args below meth c nL c0 Rep cnt A t ls st σ q o1) (gf : ¬ (x = y) → G p l e fr lo s m args below meth c nL c0 Rep cnt A n ls st σ q o2) : G p l e fr lo s m args below meth c nL c0 Rep cnt A pc ls (.int y :: .int x :: st) σ q (@ite _ (x = y) inst o1 o2) := by
  subst hn
  intro out ho h1 h2
  by_cases hc : x = y
  · rw [if_pos hc] at ho
    have g' := gt hc out ho h1 h2
    exact ⟨g'.1, fun H locs la hR hS hl => lv_icmp_eq K.1 K.2.1 hd ht (fun _ => g'.2 H locs la hR hS hl) (fun h => absurd hc h)⟩
  · rw [if_neg hc] at ho
    have g' := gf hc out ho h1 h2
    exact ⟨g'.1, fun H locs la hR hS hl => lv_icmp_eq K.1 K.2.1 hd ht (fun h => absurd h hc) (fun _ => g'.2 H locs la hR hS hl)⟩
theorem g_if_eq (K : CallFix p m c cc nL s args Ts own) {x : Int32} {off : Int} {o1 o2 : Option O} {inst : Decidable (x = 0)} (n t : Nat) (hd : decode cc pc = .ok (.ifCond .eq off, 3)) (hn : pc + 3 = n) (ht : (pc : Int) + off = (t : Int)) (gt : x = 0 → G p l e fr lo s m args below meth c nL c0 Rep cnt A t ls st σ q o1) (gf : ¬ (x = 0) → G p l e fr lo s m args below meth c nL c0 Rep cnt A n ls st σ q o2) : G p l e fr lo s m args below meth c nL c0 Rep cnt A pc ls (.int x :: st) σ q (@ite _ (x = 0) inst o1 o2) := by
  subst hn
  intro out ho h1 h2
  by_cases hc : x = 0
  · rw [if_pos hc] at ho
    have g' := gt hc out ho h1 h2
    exact ⟨g'.1, fun H locs la hR hS hl => lv_if_eq K.1 K.2.1 hd ht (fun _ => g'.2 H locs la hR hS hl) (fun h => absurd hc h)⟩
  · rw [if_neg hc] at ho
    have g' := gf hc out ho h1 h2
    exact ⟨g'.1, fun H locs la hR hS hl => lv_if_eq K.1 K.2.1 hd ht (fun h => absurd h hc) (fun _ => g'.2 H locs la hR hS hl)⟩
theorem g_icmp_lt (K : CallFix p m c cc nL s args Ts own) {x y : Int32} {off : Int} {o1 o2 : Option O} {inst : Decidable (x < y)} (n t : Nat) (hd : decode cc pc = .ok (.if_icmp .lt off, 3)) (hn : pc + 3 = n) (ht : (pc : Int) + off = (t : Int)) (gt : x < y → G p l e fr lo s m args below meth c nL c0 Rep cnt A t ls st σ q o1) (gf : ¬ (x < y) → G p l e fr lo s m args below meth c nL c0 Rep cnt A n ls st σ q o2) : G p l e fr lo s m args below meth c nL c0 Rep cnt A pc ls (.int y :: .int x :: st) σ q (@ite _ (x < y) inst o1 o2) := by
  subst hn
  intro out ho h1 h2
  by_cases hc : x < y
  · rw [if_pos hc] at ho
    have g' := gt hc out ho h1 h2
    exact ⟨g'.1, fun H locs la hR hS hl => lv_icmp_lt K.1 K.2.1 hd ht (fun _ => g'.2 H locs la hR hS hl) (fun h => absurd hc h)⟩
  · rw [if_neg hc] at ho
    have g' := gf hc out ho h1 h2
    exact ⟨g'.1, fun H locs la hR hS hl => lv_icmp_lt K.1 K.2.1 hd ht (fun h => absurd h hc) (fun _ => g'.2 H locs la hR hS hl)⟩
theorem g_if_lt (K : CallFix p m c cc nL s args Ts own) {x : Int32} {off : Int} {o1 o2 : Option O} {inst : Decidable (x < 0)} (n t : Nat) (hd : decode cc pc = .ok (.ifCond .lt off, 3)) (hn : pc + 3 = n) (ht : (pc : Int) + off = (t : Int)) (gt : x < 0 → G p l e fr lo s m args below meth c nL c0 Rep cnt A t ls st σ q o1) (gf : ¬ (x < 0) → G p l e fr lo s m args below meth c nL c0 Rep cnt A n ls st σ q o2) : G p l e fr lo s m args below meth c nL c0 Rep cnt A pc ls (.int x :: st) σ q (@ite _ (x < 0) inst o1 o2) := by
  subst hn
  intro out ho h1 h2
  by_cases hc : x < 0
  · rw [if_pos hc] at ho
    have g' := gt hc out ho h1 h2
    exact ⟨g'.1, fun H locs la hR hS hl => lv_if_lt K.1 K.2.1 hd ht (fun _ => g'.2 H locs la hR hS hl) (fun h => absurd hc h)⟩
  · rw [if_neg hc] at ho
    have g' := gf hc out ho h1 h2
    exact ⟨g'.1, fun H locs la hR hS hl => lv_if_lt K.1 K.2.1 hd ht (fun h => absurd h hc) (fun _ => g'.2 H locs la hR hS hl)⟩
theorem g_icmp_ge (K : CallFix p m c cc nL s args Ts own) {x y : Int32} {off : Int} {o1 o2 : Option O} {inst : Decidable (y ≤ x)} (n t : Nat) (hd : decode cc pc = .ok (.if_icmp .ge off, 3)) (hn : pc + 3 = n) (ht : (pc : Int) + off = (t : Int)) (gt : y ≤ x → G p l e fr lo s m args below meth c nL c0 Rep cnt A t ls st σ q o1) (gf : ¬ (y ≤ x) → G p l e fr lo s m args below meth c nL c0 Rep cnt A n ls st σ q o2) : G p l e fr lo s m args below meth c nL c0 Rep cnt A pc ls (.int y :: .int x :: st) σ q (@ite _ (y ≤ x) inst o1 o2) := by
  subst hn
  intro out ho h1 h2
  by_cases hc : y ≤ x
  · rw [if_pos hc] at ho
    have g' := gt hc out ho h1 h2
    exact ⟨g'.1, fun H locs la hR hS hl => lv_icmp_ge K.1 K.2.1 hd ht (fun _ => g'.2 H locs la hR hS hl) (fun h => absurd hc h)⟩
  · rw [if_neg hc] at ho
    have g' := gf hc out ho h1 h2
    exact ⟨g'.1, fun H locs la hR hS hl => lv_icmp_ge K.1 K.2.1 hd ht (fun h => absurd h hc) (fun _ => g'.2 H locs la hR hS hl)⟩
theorem g_if_ge (K : CallFix p m c cc nL s args Ts own) {x : Int32} {off : Int} {o1 o2 : Option O} {inst : Decidable (0 ≤ x)} (n t : Nat) (hd : decode cc pc = .ok (.ifCond .ge off, 3)) (hn : pc + 3 = n) (ht : (pc : Int) + off = (t : Int)) (gt : 0 ≤ x → G p l e fr lo s m args below meth c nL c0 Rep cnt A t ls st σ q o1) (gf : ¬ (0 ≤ x) → G p l e fr lo s m args below meth c nL c0 Rep cnt A n ls st σ q o2) : G p l e fr lo s m args below meth c nL c0 Rep cnt A pc ls (.int x :: st) σ q (@ite _ (0 ≤ x) inst o1 o2) := by
  subst hn
  intro out ho h1 h2
  by_cases hc : 0 ≤ x
  · rw [if_pos hc] at ho
    have g' := gt hc out ho h1 h2
    exact ⟨g'.1, fun H locs la hR hS hl => lv_if_ge K.1 K.2.1 hd ht (fun _ => g'.2 H locs la hR hS hl) (fun h => absurd hc h)⟩
  · rw [if_neg hc] at ho
    have g' := gf hc out ho h1 h2
    exact ⟨g'.1, fun H locs la hR hS hl => lv_if_ge K.1 K.2.1 hd ht (fun h => absurd h hc) (fun _ => g'.2 H locs la hR hS hl)⟩
theorem g_icmp_gt (K : CallFix p m c cc nL s args Ts own) {x y : Int32} {off : Int} {o1 o2 : Option O} {inst : Decidable (y < x)} (n t : Nat) (hd : decode cc pc = .ok (.if_icmp .gt off, 3)) (hn : pc + 3 = n) (ht : (pc : Int) + off = (t : Int)) (gt : y < x → G p l e fr lo s m args below meth c nL c0 Rep cnt A t ls st σ q o1) (gf : ¬ (y < x) → G p l e fr lo s m args below meth c nL c0 Rep cnt A n ls st σ q o2) : G p l e fr lo s m args below meth c nL c0 Rep cnt A pc ls (.int y :: .int x :: st) σ q (@ite _ (y < x) inst o1 o2) := by
  subst hn
  intro out ho h1 h2
  by_cases hc : y < x
  · rw [if_pos hc] at ho
    have g' := gt hc out ho h1 h2
    exact ⟨g'.1, fun H locs la hR hS hl => lv_icmp_gt K.1 K.2.1 hd ht (fun _ => g'.2 H locs la hR hS hl) (fun h => absurd hc h)⟩
  · rw [if_neg hc] at ho
    have g' := gf hc out ho h1 h2
    exact ⟨g'.1, fun H locs la hR hS hl => lv_icmp_gt K.1 K.2.1 hd ht (fun h => absurd h hc) (fun _ => g'.2 H locs la hR hS hl)⟩
theorem g_if_gt (K : CallFix p m c cc nL s args Ts own) {x : Int32} {off : Int} {o1 o2 : Option O} {inst : Decidable (0 < x)} (n t : Nat) (hd : decode cc pc = .ok (.ifCond .gt off, 3)) (hn : pc + 3 = n) (ht : (pc : Int) + off = (t : Int)) (gt : 0 < x → G p l e fr lo s m args below meth c nL c0 Rep cnt A t ls st σ q o1) (gf : ¬ (0 < x) → G p l e fr lo s m args below meth c nL c0 Rep cnt A n ls st σ q o2) : G p l e fr lo s m args below meth c nL c0 Rep cnt A pc ls (.int x :: st) σ q (@ite _ (0 < x) inst o1 o2) := by
  subst hn
  intro out ho h1 h2
  by_cases hc : 0 < x
  · rw [if_pos hc] at ho
    have g' := gt hc out ho h1 h2
    exact ⟨g'.1, fun H locs la hR hS hl => lv_if_gt K.1 K.2.1 hd ht (fun _ => g'.2 H locs la hR hS hl) (fun h => absurd hc h)⟩
  · rw [if_neg hc] at ho
    have g' := gf hc out ho h1 h2
    exact ⟨g'.1, fun H locs la hR hS hl => lv_if_gt K.1 K.2.1 hd ht (fun h => absurd h hc) (fun _ => g'.2 H locs la hR hS hl)⟩
theorem g_icmp_le (K : CallFix p m c cc nL s args Ts own) {x y : Int32} {off : Int} {o1 o2 : Option O} {inst : Decidable (x ≤ y)} (n t : Nat) (hd : decode cc pc = .ok (.if_icmp .le off, 3)) (hn : pc + 3 = n) (ht : (pc : Int) + off = (t : Int)) (gt : x ≤ y → G p l e fr lo s m args below meth c nL c0 Rep cnt A t ls st σ q o1) (gf : ¬ (x ≤ y) → G p l e fr lo s m args below meth c nL c0 Rep cnt A n ls st σ q o2) : G p l e fr lo s m args below meth c nL c0 Rep cnt A pc ls (.int y :: .int x :: st) σ q (@ite _ (x ≤ y) inst o1 o2) := by
  subst hn
  intro out ho h1 h2
  by_cases hc : x ≤ y
  · rw [if_pos hc] at ho
    have g' := gt hc out ho h1 h2
    exact ⟨g'.1, fun H locs la hR hS hl => lv_icmp_le K.1 K.2.1 hd ht (fun _ => g'.2 H locs la hR hS hl) (fun h => absurd hc h)⟩
  · rw [if_neg hc] at ho
    have g' := gf hc out ho h1 h2
    exact ⟨g'.1, fun H locs la hR hS hl => lv_icmp_le K.1 K.2.1 hd ht (fun h => absurd h hc) (fun _ => g'.2 H locs la hR hS hl)⟩
theorem g_if_le (K : CallFix p m c cc nL s args Ts own) {x : Int32} {off : Int} {o1 o2 : Option O} {inst : Decidable (x ≤ 0)} (n t : Nat) (hd : decode cc pc = .ok (.ifCond .le off, 3)) (hn : pc + 3 = n) (ht : (pc : Int) + off = (t : Int)) (gt : x ≤ 0 → G p l e fr lo s m args below meth c nL c0 Rep cnt A t ls st σ q o1) (gf : ¬ (x ≤ 0) → G p l e fr lo s m args below meth c nL c0 Rep cnt A n ls st σ q o2) : G p l e fr lo s m args below meth c nL c0 Rep cnt A pc ls (.int x :: st) σ q (@ite _ (x ≤ 0) inst o1 o2) := by
  subst hn
  intro out ho h1 h2
  by_cases hc : x ≤ 0
  · rw [if_pos hc] at ho
    have g' := gt hc out ho h1 h2
    exact ⟨g'.1, fun H locs la hR hS hl => lv_if_le K.1 K.2.1 hd ht (fun _ => g'.2 H locs la hR hS hl) (fun h => absurd hc h)⟩
  · rw [if_neg hc] at ho
    have g' := gf hc out ho h1 h2
    exact ⟨g'.1, fun H locs la hR hS hl => lv_if_le K.1 K.2.1 hd ht (fun h => absurd h hc) (fun _ => g'.2 H locs la hR hS hl)⟩
theorem g_goto (K : CallFix p m c cc nL s args Ts own) {off : Int} (t : Nat) (hd : decode cc pc = .ok (.goto off, 3)) (ht : (pc : Int) + off = (t : Int)) (g : G p l e fr lo s m args below meth c nL c0 Rep cnt A t ls st σ q o) : G p l e fr lo s m args below meth c nL c0 Rep cnt A pc ls st σ q o :=
  G.map (fun R H locs ce sl Q la hl k => lv_goto K.1 K.2.1 hd ht (k la hl)) g
end GR
