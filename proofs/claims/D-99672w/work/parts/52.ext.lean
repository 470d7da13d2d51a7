/-! ===== kinds that stay, and names for the state (own work) ===== -/
/-- every cell of ours stays what it is, but for those that a constructor is at -/
def Ext (kd kd1 : Kd) : Prop := ∀ b, (kd b).1 < 40 → kd1 b = kd b
theorem Ext.at {kd kd1 : Kd} {b : Nat} {t : Nat × Nat × Nat} (h : Ext kd kd1) (hb : kd b = t) (h9 : t.1 < 40) : kd1 b = t := by
  rw [h b (by rw [hb]; exact h9), hb]
theorem Ext.rfl' {kd : Kd} : Ext kd kd := fun _ _ => rfl
theorem Ext.trans' {kd kd1 kd2 : Kd} (h : Ext kd kd1) (h2 : Ext kd1 kd2) : Ext kd kd2 := fun b hb => (h2 b (by rw [h b hb]; exact hb)).trans (h b hb)
theorem Ext.new {kd kd1 : Kd} {sz : Nat} {t : Nat × Nat × Nat} (hn : ¬ (kd sz).1 < 90) (h1 : kd1 = upA kd sz t) : Ext kd kd1 := fun _ hb => kd_keep hn h1 (Nat.lt_trans hb (Nat.le_of_ble_eq_true rfl)) rfl
theorem Ext.newM {kd kd1 : Kd} {sz N M : Nat} (hn : ∀ j, j < N + 1 → ¬ (kd (sz + j)).1 < 90) (h1 : kd1 = kdM kd sz N M) : Ext kd kd1 := fun _ hb => by subst h1; exact kdM_keep hn (Nat.lt_trans hb (Nat.le_of_ble_eq_true rfl)) rfl
theorem Ext.cv {kd : Kd} {a : Nat} {t : Nat × Nat × Nat} (ha : 40 ≤ (kd a).1) : Ext kd (upA kd a t) := fun b hb => if_neg (fun e => by subst e; exact absurd hb (Nat.not_lt.mpr ha))
/-- names for the state -/
def nmA {R : Type} (sz sl : Nat) (kd : Kd) (P : Ptr) (I : Mem) (k : Nat → Nat → Kd → Ptr → Mem → Option R) : Option R := k sz sl kd P I
section GNA
variable {p : Program} {l : Launch} {e : Env} {fr lo : Nat} {s : State} {m : MethodId} {args : Array Value} {below : List Frame} {meth : Method} {c : Code} {nL : Nat} {c0 : Nat × Nat} {D : va_G} {cs : Cs} {z sz sl : Nat} {kd : Kd} {O : Type} {pc : Nat} {ls : List (Nat × Value)} {st : List Value} {P : Ptr} {I : Mem} {q : O → En}
theorem g_nmA {k : Nat → Nat → Kd → Ptr → Mem → Option O} (g : ∀ sz1 sl1 kd1 P1 I1, sz1 = sz → sl1 = sl → kd1 = kd → P1 = P → I1 = I → Gx p l e fr lo s m args below meth c nL c0 (sz1, sl1) D cs z sz1 kd1 pc ls st (P1, I1) q (k sz1 sl1 kd1 P1 I1)) : Gx p l e fr lo s m args below meth c nL c0 (sz, sl) D cs z sz kd pc ls st (P, I) q (nmA sz sl kd P I k) := g _ _ _ _ _ rfl rfl rfl rfl rfl
end GNA
