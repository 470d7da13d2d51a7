/-! GingerRents$Joined -/
set_option maxRecDepth 100000
def RX10 : String := "GingerRents$Joined"
def TX10 : u_T := fun k => match k with
  | 0 => ("GingerRents$Joined", "left", "LGingerRents$Term;", true)
  | 1 => ("GingerRents$Joined", "right", "LGingerRents$Term;", true)
  | _ => ("GingerRents$Joined", "how", "I", true)
def tyX10 : Nat → FieldType := fun k => match k with
  | 0 => .object "GingerRents$Term"
  | 1 => .object "GingerRents$Term"
  | _ => .int
abbrev wsX100 : List Cond := u_ws RX10 TX10 3
theorem nmX10 : ∀ a, a < 3 → ∀ b, b < 3 → a ≠ b → (TX10 a).2.1 ≠ (TX10 b).2.1 := by decide +kernel
theorem tyX10_ok : ∀ k, k < 3 → parseFieldDescriptor (TX10 k).2.2.1 = some (tyX10 k) := by decide +kernel
abbrev cX10_init : ByteArray := prog_11_method_1_code
def yX10_init : MethodName := ⟨RX10, "<init>", "(LGingerRents$Term;ILGingerRents$Term;)V"⟩
def dkwX10_init_0 : List UInt8 := [42, 183, 0, 3, 42, 43, 181, 0, 9, 42, 28, 181, 0, 15, 42, 45, 181, 0, 19, 177]
abbrev dktX10_init_0 : List UInt8 := dkwX10_init_0 ++ []
theorem dksX10_init_0 : cX10_init.data.toList.drop 0 = dktX10_init_0 := by decide +kernel
theorem dX10_init_0 : decode cX10_init 0 = .ok (.aload_n 0, 1) := dk_42 (dk_at dksX10_init_0 0 rfl rfl)
theorem dX10_init_1 : decode cX10_init 1 = .ok (.invokespecial 3, 3) := dk_183 0 3 (dk_at dksX10_init_0 1 rfl rfl)
theorem dX10_init_4 : decode cX10_init 4 = .ok (.aload_n 0, 1) := dk_42 (dk_at dksX10_init_0 4 rfl rfl)
theorem dX10_init_5 : decode cX10_init 5 = .ok (.aload_n 1, 1) := dk_43 (dk_at dksX10_init_0 5 rfl rfl)
theorem dX10_init_6 : decode cX10_init 6 = .ok (.putfield 9, 3) := dk_181 0 9 (dk_at dksX10_init_0 6 rfl rfl)
theorem dX10_init_9 : decode cX10_init 9 = .ok (.aload_n 0, 1) := dk_42 (dk_at dksX10_init_0 9 rfl rfl)
theorem dX10_init_10 : decode cX10_init 10 = .ok (.iload_n 2, 1) := dk_28 (dk_at dksX10_init_0 10 rfl rfl)
theorem dX10_init_11 : decode cX10_init 11 = .ok (.putfield 15, 3) := dk_181 0 15 (dk_at dksX10_init_0 11 rfl rfl)
theorem dX10_init_14 : decode cX10_init 14 = .ok (.aload_n 0, 1) := dk_42 (dk_at dksX10_init_0 14 rfl rfl)
theorem dX10_init_15 : decode cX10_init 15 = .ok (.aload_n 3, 1) := dk_45 (dk_at dksX10_init_0 15 rfl rfl)
theorem dX10_init_16 : decode cX10_init 16 = .ok (.putfield 19, 3) := dk_181 0 19 (dk_at dksX10_init_0 16 rfl rfl)
theorem dX10_init_19 : decode cX10_init 19 = .ok (.return_, 1) := dk_177 (dk_at dksX10_init_0 19 rfl rfl)
abbrev cX10_of : ByteArray := prog_11_method_2_code
def yX10_of : MethodName := ⟨RX10, "of", "(LGingerRents$Asker;)I"⟩
def dkwX10_of_4 : List UInt8 := [167, 0, 4, 3, 172, 28, 29, 126, 172, 28, 29, 128, 172]
abbrev dktX10_of_4 : List UInt8 := dkwX10_of_4 ++ []
def dkwX10_of_3 : List UInt8 := [167, 0, 4, 3, 172, 28, 29, 160, 0, 7, 4, 167, 0, 4, 3, 172, 28, 29, 164, 0, 7, 4]
abbrev dktX10_of_3 : List UInt8 := dkwX10_of_3 ++ dktX10_of_4
def dkwX10_of_2 : List UInt8 := [28, 29, 96, 172, 28, 29, 100, 172, 28, 29, 104, 172, 28, 29, 108, 172, 28, 29, 162, 0, 7, 4]
abbrev dktX10_of_2 : List UInt8 := dkwX10_of_2 ++ dktX10_of_3
def dkwX10_of_1 : List UInt8 := [171, 0, 0, 0, 0, 127, 0, 0, 0, 8, 0, 0, 0, 5, 0, 0, 0, 123, 0, 0, 0, 42, 0, 0, 0, 82, 0, 0, 0, 43, 0, 0, 0, 74, 0, 0, 0, 45, 0, 0, 0, 78, 0, 0, 0, 47, 0, 0, 0, 86, 0, 0, 0, 60, 0, 0, 0, 90, 0, 0, 0, 61, 0, 0, 0, 101, 0, 0, 0, 62, 0, 0, 0, 112]
abbrev dktX10_of_1 : List UInt8 := dkwX10_of_1 ++ dktX10_of_2
def dkwX10_of_0 : List UInt8 := [42, 180, 0, 9, 43, 182, 0, 22, 61, 42, 180, 0, 19, 43, 182, 0, 22, 62, 42, 180, 0, 15]
abbrev dktX10_of_0 : List UInt8 := dkwX10_of_0 ++ dktX10_of_1
theorem dksX10_of_0 : cX10_of.data.toList.drop 0 = dktX10_of_0 := by decide +kernel
theorem dksX10_of_1 : cX10_of.data.toList.drop 22 = dktX10_of_1 := dk_seg dksX10_of_0 22 rfl rfl
theorem dksX10_of_2 : cX10_of.data.toList.drop 96 = dktX10_of_2 := dk_seg dksX10_of_1 74 rfl rfl
theorem dksX10_of_3 : cX10_of.data.toList.drop 118 = dktX10_of_3 := dk_seg dksX10_of_2 22 rfl rfl
theorem dksX10_of_4 : cX10_of.data.toList.drop 140 = dktX10_of_4 := dk_seg dksX10_of_3 22 rfl rfl
theorem dX10_of_0 : decode cX10_of 0 = .ok (.aload_n 0, 1) := dk_42 (dk_at dksX10_of_0 0 rfl rfl)
theorem dX10_of_1 : decode cX10_of 1 = .ok (.getfield 9, 3) := dk_180 0 9 (dk_at dksX10_of_0 1 rfl rfl)
theorem dX10_of_4 : decode cX10_of 4 = .ok (.aload_n 1, 1) := dk_43 (dk_at dksX10_of_0 4 rfl rfl)
theorem dX10_of_5 : decode cX10_of 5 = .ok (.invokevirtual 22, 3) := dk_182 0 22 (dk_at dksX10_of_0 5 rfl rfl)
theorem dX10_of_8 : decode cX10_of 8 = .ok (.istore_n 2, 1) := dk_61 (dk_at dksX10_of_0 8 rfl rfl)
theorem dX10_of_9 : decode cX10_of 9 = .ok (.aload_n 0, 1) := dk_42 (dk_at dksX10_of_0 9 rfl rfl)
theorem dX10_of_10 : decode cX10_of 10 = .ok (.getfield 19, 3) := dk_180 0 19 (dk_at dksX10_of_0 10 rfl rfl)
theorem dX10_of_13 : decode cX10_of 13 = .ok (.aload_n 1, 1) := dk_43 (dk_at dksX10_of_0 13 rfl rfl)
theorem dX10_of_14 : decode cX10_of 14 = .ok (.invokevirtual 22, 3) := dk_182 0 22 (dk_at dksX10_of_0 14 rfl rfl)
theorem dX10_of_17 : decode cX10_of 17 = .ok (.istore_n 3, 1) := dk_62 (dk_at dksX10_of_0 17 rfl rfl)
theorem dX10_of_18 : decode cX10_of 18 = .ok (.aload_n 0, 1) := dk_42 (dk_at dksX10_of_0 18 rfl rfl)
theorem dX10_of_19 : decode cX10_of 19 = .ok (.getfield 15, 3) := dk_180 0 15 (dk_at dksX10_of_0 19 rfl rfl)
theorem dX10_of_22 : decode cX10_of 22 = .ok (.lookupswitch 127 #[(5, 123), (42, 82), (43, 74), (45, 78), (47, 86), (60, 90), (61, 101), (62, 112)], 74) := by decide +kernel
theorem dX10_of_96 : decode cX10_of 96 = .ok (.iload_n 2, 1) := dk_28 (dk_at dksX10_of_2 0 rfl rfl)
theorem dX10_of_97 : decode cX10_of 97 = .ok (.iload_n 3, 1) := dk_29 (dk_at dksX10_of_2 1 rfl rfl)
theorem dX10_of_98 : decode cX10_of 98 = .ok (.iadd, 1) := dk_96 (dk_at dksX10_of_2 2 rfl rfl)
theorem dX10_of_99 : decode cX10_of 99 = .ok (.ireturn, 1) := dk_172 (dk_at dksX10_of_2 3 rfl rfl)
theorem dX10_of_100 : decode cX10_of 100 = .ok (.iload_n 2, 1) := dk_28 (dk_at dksX10_of_2 4 rfl rfl)
theorem dX10_of_101 : decode cX10_of 101 = .ok (.iload_n 3, 1) := dk_29 (dk_at dksX10_of_2 5 rfl rfl)
theorem dX10_of_102 : decode cX10_of 102 = .ok (.isub, 1) := dk_100 (dk_at dksX10_of_2 6 rfl rfl)
theorem dX10_of_103 : decode cX10_of 103 = .ok (.ireturn, 1) := dk_172 (dk_at dksX10_of_2 7 rfl rfl)
theorem dX10_of_104 : decode cX10_of 104 = .ok (.iload_n 2, 1) := dk_28 (dk_at dksX10_of_2 8 rfl rfl)
theorem dX10_of_105 : decode cX10_of 105 = .ok (.iload_n 3, 1) := dk_29 (dk_at dksX10_of_2 9 rfl rfl)
theorem dX10_of_106 : decode cX10_of 106 = .ok (.imul, 1) := dk_104 (dk_at dksX10_of_2 10 rfl rfl)
theorem dX10_of_107 : decode cX10_of 107 = .ok (.ireturn, 1) := dk_172 (dk_at dksX10_of_2 11 rfl rfl)
theorem dX10_of_108 : decode cX10_of 108 = .ok (.iload_n 2, 1) := dk_28 (dk_at dksX10_of_2 12 rfl rfl)
theorem dX10_of_109 : decode cX10_of 109 = .ok (.iload_n 3, 1) := dk_29 (dk_at dksX10_of_2 13 rfl rfl)
theorem dX10_of_110 : decode cX10_of 110 = .ok (.idiv, 1) := dk_108 (dk_at dksX10_of_2 14 rfl rfl)
theorem dX10_of_111 : decode cX10_of 111 = .ok (.ireturn, 1) := dk_172 (dk_at dksX10_of_2 15 rfl rfl)
theorem dX10_of_112 : decode cX10_of 112 = .ok (.iload_n 2, 1) := dk_28 (dk_at dksX10_of_2 16 rfl rfl)
theorem dX10_of_113 : decode cX10_of 113 = .ok (.iload_n 3, 1) := dk_29 (dk_at dksX10_of_2 17 rfl rfl)
theorem dX10_of_114 : decode cX10_of 114 = .ok (.if_icmp .ge 7, 3) := dk_162 0 7 (dk_at dksX10_of_2 18 rfl rfl)
theorem dX10_of_117 : decode cX10_of 117 = .ok (.iconst 1, 1) := dk_4 (dk_at dksX10_of_2 21 rfl rfl)
theorem dX10_of_118 : decode cX10_of 118 = .ok (.goto 4, 3) := dk_167 0 4 (dk_at dksX10_of_3 0 rfl rfl)
theorem dX10_of_121 : decode cX10_of 121 = .ok (.iconst 0, 1) := dk_3 (dk_at dksX10_of_3 3 rfl rfl)
theorem dX10_of_122 : decode cX10_of 122 = .ok (.ireturn, 1) := dk_172 (dk_at dksX10_of_3 4 rfl rfl)
theorem dX10_of_123 : decode cX10_of 123 = .ok (.iload_n 2, 1) := dk_28 (dk_at dksX10_of_3 5 rfl rfl)
theorem dX10_of_124 : decode cX10_of 124 = .ok (.iload_n 3, 1) := dk_29 (dk_at dksX10_of_3 6 rfl rfl)
theorem dX10_of_125 : decode cX10_of 125 = .ok (.if_icmp .ne 7, 3) := dk_160 0 7 (dk_at dksX10_of_3 7 rfl rfl)
theorem dX10_of_128 : decode cX10_of 128 = .ok (.iconst 1, 1) := dk_4 (dk_at dksX10_of_3 10 rfl rfl)
theorem dX10_of_129 : decode cX10_of 129 = .ok (.goto 4, 3) := dk_167 0 4 (dk_at dksX10_of_3 11 rfl rfl)
theorem dX10_of_132 : decode cX10_of 132 = .ok (.iconst 0, 1) := dk_3 (dk_at dksX10_of_3 14 rfl rfl)
theorem dX10_of_133 : decode cX10_of 133 = .ok (.ireturn, 1) := dk_172 (dk_at dksX10_of_3 15 rfl rfl)
theorem dX10_of_134 : decode cX10_of 134 = .ok (.iload_n 2, 1) := dk_28 (dk_at dksX10_of_3 16 rfl rfl)
theorem dX10_of_135 : decode cX10_of 135 = .ok (.iload_n 3, 1) := dk_29 (dk_at dksX10_of_3 17 rfl rfl)
theorem dX10_of_136 : decode cX10_of 136 = .ok (.if_icmp .le 7, 3) := dk_164 0 7 (dk_at dksX10_of_3 18 rfl rfl)
theorem dX10_of_139 : decode cX10_of 139 = .ok (.iconst 1, 1) := dk_4 (dk_at dksX10_of_3 21 rfl rfl)
theorem dX10_of_140 : decode cX10_of 140 = .ok (.goto 4, 3) := dk_167 0 4 (dk_at dksX10_of_4 0 rfl rfl)
theorem dX10_of_143 : decode cX10_of 143 = .ok (.iconst 0, 1) := dk_3 (dk_at dksX10_of_4 3 rfl rfl)
theorem dX10_of_144 : decode cX10_of 144 = .ok (.ireturn, 1) := dk_172 (dk_at dksX10_of_4 4 rfl rfl)
theorem dX10_of_145 : decode cX10_of 145 = .ok (.iload_n 2, 1) := dk_28 (dk_at dksX10_of_4 5 rfl rfl)
theorem dX10_of_146 : decode cX10_of 146 = .ok (.iload_n 3, 1) := dk_29 (dk_at dksX10_of_4 6 rfl rfl)
theorem dX10_of_147 : decode cX10_of 147 = .ok (.iand, 1) := dk_126 (dk_at dksX10_of_4 7 rfl rfl)
theorem dX10_of_148 : decode cX10_of 148 = .ok (.ireturn, 1) := dk_172 (dk_at dksX10_of_4 8 rfl rfl)
theorem dX10_of_149 : decode cX10_of 149 = .ok (.iload_n 2, 1) := dk_28 (dk_at dksX10_of_4 9 rfl rfl)
theorem dX10_of_150 : decode cX10_of 150 = .ok (.iload_n 3, 1) := dk_29 (dk_at dksX10_of_4 10 rfl rfl)
theorem dX10_of_151 : decode cX10_of 151 = .ok (.ior, 1) := dk_128 (dk_at dksX10_of_4 11 rfl rfl)
theorem dX10_of_152 : decode cX10_of 152 = .ok (.ireturn, 1) := dk_172 (dk_at dksX10_of_4 12 rfl rfl)
theorem q173 : (Jvm.Cond.initialized "GingerRents$Joined") ∈ lw_all := lw_g (lw_at lw_m1 23 rfl) rfl
theorem q755 : (Jvm.Cond.instantiable "GingerRents$Joined" (3 : Nat)) ∈ lw_all := lw_g (lw_at lw_m3 125 rfl) rfl
theorem q757 : (Jvm.Cond.instanceMethod ({ cls := "GingerRents$Joined", name := "<init>", desc := "(LGingerRents$Term;ILGingerRents$Term;)V" } : Jvm.MethodName)) ∈ lw_all := lw_g (lw_at lw_m3 127 rfl) rfl
theorem q758 : (Jvm.Cond.code ({ cls := "GingerRents$Joined", name := "<init>", desc := "(LGingerRents$Term;ILGingerRents$Term;)V" } : Jvm.MethodName) prog_11_method_1_code (4 : Nat) (Option.none : Option Jvm.ClassFile.FieldType)) ∈ lw_all := lw_g (lw_at lw_m3 128 rfl) rfl
theorem q759 : (Jvm.Cond.methodLinkNest "GingerRents$Joined" (3 : Nat) ({ cls := "GingerRents$Term", name := "<init>", desc := "()V" } : Jvm.MethodName) "GingerRents") ∈ lw_tbl := lw_at lw_m3 129 rfl
theorem q760 : (Jvm.Cond.fieldLink "GingerRents$Joined" (9 : Nat) "GingerRents$Joined" "left" "LGingerRents$Term;") ∈ lw_all := lw_g (lw_at lw_m3 130 rfl) rfl
theorem q761 : (Jvm.Cond.fieldLink "GingerRents$Joined" (19 : Nat) "GingerRents$Joined" "right" "LGingerRents$Term;") ∈ lw_all := lw_g (lw_at lw_m3 131 rfl) rfl
theorem q762 : (Jvm.Cond.fieldLink "GingerRents$Joined" (15 : Nat) "GingerRents$Joined" "how" "I") ∈ lw_all := lw_g (lw_at lw_m3 132 rfl) rfl
theorem q763 : (Jvm.Cond.laysFinal "GingerRents$Joined" "GingerRents$Joined" "left" "LGingerRents$Term;") ∈ lw_all := lw_g (lw_at lw_m3 133 rfl) rfl
theorem q764 : (Jvm.Cond.soleField "GingerRents$Joined" "left") ∈ lw_all := lw_g (lw_at lw_m3 134 rfl) rfl
theorem q765 : (Jvm.Cond.laysFinal "GingerRents$Joined" "GingerRents$Joined" "right" "LGingerRents$Term;") ∈ lw_all := lw_g (lw_at lw_m3 135 rfl) rfl
theorem q766 : (Jvm.Cond.soleField "GingerRents$Joined" "right") ∈ lw_all := lw_g (lw_at lw_m3 136 rfl) rfl
theorem q767 : (Jvm.Cond.laysFinal "GingerRents$Joined" "GingerRents$Joined" "how" "I") ∈ lw_all := lw_g (lw_at lw_m3 137 rfl) rfl
theorem q768 : (Jvm.Cond.soleField "GingerRents$Joined" "how") ∈ lw_all := lw_g (lw_at lw_m3 138 rfl) rfl
theorem q769 : (Jvm.Cond.superclass "GingerRents$Joined" "GingerRents$Term") ∈ lw_all := lw_g (lw_at lw_m3 139 rfl) rfl
theorem q859 : (Jvm.Cond.selects "GingerRents$Joined" ({ cls := "java/lang/Object", name := "getClass", desc := "()Ljava/lang/Class;" } : Jvm.MethodName) ({ cls := "java/lang/Object", name := "getClass", desc := "()Ljava/lang/Class;" } : Jvm.MethodName)) ∈ lw_all := lw_g (lw_at lw_m3 229 rfl) rfl
theorem q1194 : (Jvm.Cond.selects "GingerRents$Joined" ({ cls := "GingerRents$Term", name := "of", desc := "(LGingerRents$Asker;)I" } : Jvm.MethodName) ({ cls := "GingerRents$Joined", name := "of", desc := "(LGingerRents$Asker;)I" } : Jvm.MethodName)) ∈ lw_all := lw_g (lw_at lw_m5 84 rfl) rfl
theorem q1195 : (Jvm.Cond.instanceMethod ({ cls := "GingerRents$Joined", name := "of", desc := "(LGingerRents$Asker;)I" } : Jvm.MethodName)) ∈ lw_all := lw_g (lw_at lw_m5 85 rfl) rfl
theorem q1196 : (Jvm.Cond.code ({ cls := "GingerRents$Joined", name := "of", desc := "(LGingerRents$Asker;)I" } : Jvm.MethodName) prog_11_method_2_code (4 : Nat) (Option.some Jvm.ClassFile.FieldType.int)) ∈ lw_all := lw_g (lw_at lw_m5 86 rfl) rfl
theorem q1197 : (Jvm.Cond.methodLink "GingerRents$Joined" (22 : Nat) ({ cls := "GingerRents$Term", name := "of", desc := "(LGingerRents$Asker;)I" } : Jvm.MethodName)) ∈ lw_all := lw_g (lw_at lw_m5 87 rfl) rfl
theorem q2268 : (Jvm.Cond.castable "GingerRents$Joined" "java/lang/Object") ∈ lw_tbl := lw_at lw_m9 198 rfl
theorem in_X10 : ∀ w ∈ wsX100, w ∈ lw_all := lw_in wsX100 [763, 765, 767] (by decide +kernel) (by decide +kernel)

/-! GingerRents$Not -/
set_option maxRecDepth 100000
def RX11 : String := "GingerRents$Not"
def TX11 : u_T := fun k => match k with
  | _ => ("GingerRents$Not", "term", "LGingerRents$Term;", true)
def tyX11 : Nat → FieldType := fun k => match k with
  | _ => .object "GingerRents$Term"
abbrev wsX110 : List Cond := u_ws RX11 TX11 1
theorem nmX11 : ∀ a, a < 1 → ∀ b, b < 1 → a ≠ b → (TX11 a).2.1 ≠ (TX11 b).2.1 := by decide +kernel
theorem tyX11_ok : ∀ k, k < 1 → parseFieldDescriptor (TX11 k).2.2.1 = some (tyX11 k) := by decide +kernel
abbrev cX11_init : ByteArray := prog_14_method_1_code
def yX11_init : MethodName := ⟨RX11, "<init>", "(LGingerRents$Term;)V"⟩
def dkwX11_init_0 : List UInt8 := [42, 183, 0, 1, 42, 43, 181, 0, 7, 177]
abbrev dktX11_init_0 : List UInt8 := dkwX11_init_0 ++ []
theorem dksX11_init_0 : cX11_init.data.toList.drop 0 = dktX11_init_0 := by decide +kernel
theorem dX11_init_0 : decode cX11_init 0 = .ok (.aload_n 0, 1) := dk_42 (dk_at dksX11_init_0 0 rfl rfl)
theorem dX11_init_1 : decode cX11_init 1 = .ok (.invokespecial 1, 3) := dk_183 0 1 (dk_at dksX11_init_0 1 rfl rfl)
theorem dX11_init_4 : decode cX11_init 4 = .ok (.aload_n 0, 1) := dk_42 (dk_at dksX11_init_0 4 rfl rfl)
theorem dX11_init_5 : decode cX11_init 5 = .ok (.aload_n 1, 1) := dk_43 (dk_at dksX11_init_0 5 rfl rfl)
theorem dX11_init_6 : decode cX11_init 6 = .ok (.putfield 7, 3) := dk_181 0 7 (dk_at dksX11_init_0 6 rfl rfl)
theorem dX11_init_9 : decode cX11_init 9 = .ok (.return_, 1) := dk_177 (dk_at dksX11_init_0 9 rfl rfl)
abbrev cX11_of : ByteArray := prog_14_method_2_code
def yX11_of : MethodName := ⟨RX11, "of", "(LGingerRents$Asker;)I"⟩
def dkwX11_of_0 : List UInt8 := [4, 42, 180, 0, 7, 43, 182, 0, 13, 100, 172]
abbrev dktX11_of_0 : List UInt8 := dkwX11_of_0 ++ []
theorem dksX11_of_0 : cX11_of.data.toList.drop 0 = dktX11_of_0 := by decide +kernel
theorem dX11_of_0 : decode cX11_of 0 = .ok (.iconst 1, 1) := dk_4 (dk_at dksX11_of_0 0 rfl rfl)
theorem dX11_of_1 : decode cX11_of 1 = .ok (.aload_n 0, 1) := dk_42 (dk_at dksX11_of_0 1 rfl rfl)
theorem dX11_of_2 : decode cX11_of 2 = .ok (.getfield 7, 3) := dk_180 0 7 (dk_at dksX11_of_0 2 rfl rfl)
theorem dX11_of_5 : decode cX11_of 5 = .ok (.aload_n 1, 1) := dk_43 (dk_at dksX11_of_0 5 rfl rfl)
theorem dX11_of_6 : decode cX11_of 6 = .ok (.invokevirtual 13, 3) := dk_182 0 13 (dk_at dksX11_of_0 6 rfl rfl)
theorem dX11_of_9 : decode cX11_of 9 = .ok (.isub, 1) := dk_100 (dk_at dksX11_of_0 9 rfl rfl)
theorem dX11_of_10 : decode cX11_of 10 = .ok (.ireturn, 1) := dk_172 (dk_at dksX11_of_0 10 rfl rfl)
theorem q174 : (Jvm.Cond.initialized "GingerRents$Not") ∈ lw_all := lw_g (lw_at lw_m1 24 rfl) rfl
theorem q787 : (Jvm.Cond.instantiable "GingerRents$Not" (1 : Nat)) ∈ lw_all := lw_g (lw_at lw_m3 157 rfl) rfl
theorem q789 : (Jvm.Cond.instanceMethod ({ cls := "GingerRents$Not", name := "<init>", desc := "(LGingerRents$Term;)V" } : Jvm.MethodName)) ∈ lw_all := lw_g (lw_at lw_m3 159 rfl) rfl
theorem q790 : (Jvm.Cond.code ({ cls := "GingerRents$Not", name := "<init>", desc := "(LGingerRents$Term;)V" } : Jvm.MethodName) prog_14_method_1_code (2 : Nat) (Option.none : Option Jvm.ClassFile.FieldType)) ∈ lw_all := lw_g (lw_at lw_m3 160 rfl) rfl
theorem q791 : (Jvm.Cond.methodLinkNest "GingerRents$Not" (1 : Nat) ({ cls := "GingerRents$Term", name := "<init>", desc := "()V" } : Jvm.MethodName) "GingerRents") ∈ lw_tbl := lw_at lw_m3 161 rfl
theorem q792 : (Jvm.Cond.fieldLink "GingerRents$Not" (7 : Nat) "GingerRents$Not" "term" "LGingerRents$Term;") ∈ lw_all := lw_g (lw_at lw_m3 162 rfl) rfl
theorem q793 : (Jvm.Cond.laysFinal "GingerRents$Not" "GingerRents$Not" "term" "LGingerRents$Term;") ∈ lw_all := lw_g (lw_at lw_m3 163 rfl) rfl
theorem q794 : (Jvm.Cond.soleField "GingerRents$Not" "term") ∈ lw_all := lw_g (lw_at lw_m3 164 rfl) rfl
theorem q795 : (Jvm.Cond.superclass "GingerRents$Not" "GingerRents$Term") ∈ lw_all := lw_g (lw_at lw_m3 165 rfl) rfl
theorem q862 : (Jvm.Cond.selects "GingerRents$Not" ({ cls := "java/lang/Object", name := "getClass", desc := "()Ljava/lang/Class;" } : Jvm.MethodName) ({ cls := "java/lang/Object", name := "getClass", desc := "()Ljava/lang/Class;" } : Jvm.MethodName)) ∈ lw_all := lw_g (lw_at lw_m3 232 rfl) rfl
theorem q1211 : (Jvm.Cond.instanceMethod ({ cls := "GingerRents$Not", name := "of", desc := "(LGingerRents$Asker;)I" } : Jvm.MethodName)) ∈ lw_all := lw_g (lw_at lw_m5 101 rfl) rfl
theorem q1212 : (Jvm.Cond.code ({ cls := "GingerRents$Not", name := "of", desc := "(LGingerRents$Asker;)I" } : Jvm.MethodName) prog_14_method_2_code (2 : Nat) (Option.some Jvm.ClassFile.FieldType.int)) ∈ lw_all := lw_g (lw_at lw_m5 102 rfl) rfl
theorem q1213 : (Jvm.Cond.methodLink "GingerRents$Not" (13 : Nat) ({ cls := "GingerRents$Term", name := "of", desc := "(LGingerRents$Asker;)I" } : Jvm.MethodName)) ∈ lw_all := lw_g (lw_at lw_m5 103 rfl) rfl
theorem q1215 : (Jvm.Cond.selects "GingerRents$Not" ({ cls := "GingerRents$Term", name := "of", desc := "(LGingerRents$Asker;)I" } : Jvm.MethodName) ({ cls := "GingerRents$Not", name := "of", desc := "(LGingerRents$Asker;)I" } : Jvm.MethodName)) ∈ lw_all := lw_g (lw_at lw_m5 105 rfl) rfl
theorem q2269 : (Jvm.Cond.castable "GingerRents$Not" "java/lang/Object") ∈ lw_tbl := lw_at lw_m9 199 rfl
theorem in_X11 : ∀ w ∈ wsX110, w ∈ lw_all := lw_in wsX110 [793] (by decide +kernel) (by decide +kernel)

/-! GingerRents$Line -/
set_option maxRecDepth 100000
def RX12 : String := "GingerRents$Line"
def TX12 : u_T := fun k => match k with
  | 0 => ("GingerRents$Line", "word", "I", true)
  | 1 => ("GingerRents$Line", "comesTo", "LGingerRents$Term;", true)
  | _ => ("GingerRents$Line", "when", "LGingerRents$Term;", true)
def tyX12 : Nat → FieldType := fun k => match k with
  | 0 => .int
  | 1 => .object "GingerRents$Term"
  | _ => .object "GingerRents$Term"
abbrev wsX120 : List Cond := u_ws RX12 TX12 3
theorem nmX12 : ∀ a, a < 3 → ∀ b, b < 3 → a ≠ b → (TX12 a).2.1 ≠ (TX12 b).2.1 := by decide +kernel
theorem tyX12_ok : ∀ k, k < 3 → parseFieldDescriptor (TX12 k).2.2.1 = some (tyX12 k) := by decide +kernel
abbrev cX12_init : ByteArray := prog_13_method_1_code
def yX12_init : MethodName := ⟨RX12, "<init>", "(ILGingerRents$Term;LGingerRents$Term;)V"⟩
def dkwX12_init_0 : List UInt8 := [42, 183, 0, 1, 42, 27, 181, 0, 7, 42, 44, 181, 0, 13, 42, 45, 181, 0, 17, 177]
abbrev dktX12_init_0 : List UInt8 := dkwX12_init_0 ++ []
theorem dksX12_init_0 : cX12_init.data.toList.drop 0 = dktX12_init_0 := by decide +kernel
theorem dX12_init_0 : decode cX12_init 0 = .ok (.aload_n 0, 1) := dk_42 (dk_at dksX12_init_0 0 rfl rfl)
theorem dX12_init_1 : decode cX12_init 1 = .ok (.invokespecial 1, 3) := dk_183 0 1 (dk_at dksX12_init_0 1 rfl rfl)
theorem dX12_init_4 : decode cX12_init 4 = .ok (.aload_n 0, 1) := dk_42 (dk_at dksX12_init_0 4 rfl rfl)
theorem dX12_init_5 : decode cX12_init 5 = .ok (.iload_n 1, 1) := dk_27 (dk_at dksX12_init_0 5 rfl rfl)
theorem dX12_init_6 : decode cX12_init 6 = .ok (.putfield 7, 3) := dk_181 0 7 (dk_at dksX12_init_0 6 rfl rfl)
theorem dX12_init_9 : decode cX12_init 9 = .ok (.aload_n 0, 1) := dk_42 (dk_at dksX12_init_0 9 rfl rfl)
theorem dX12_init_10 : decode cX12_init 10 = .ok (.aload_n 2, 1) := dk_44 (dk_at dksX12_init_0 10 rfl rfl)
theorem dX12_init_11 : decode cX12_init 11 = .ok (.putfield 13, 3) := dk_181 0 13 (dk_at dksX12_init_0 11 rfl rfl)
theorem dX12_init_14 : decode cX12_init 14 = .ok (.aload_n 0, 1) := dk_42 (dk_at dksX12_init_0 14 rfl rfl)
theorem dX12_init_15 : decode cX12_init 15 = .ok (.aload_n 3, 1) := dk_45 (dk_at dksX12_init_0 15 rfl rfl)
theorem dX12_init_16 : decode cX12_init 16 = .ok (.putfield 17, 3) := dk_181 0 17 (dk_at dksX12_init_0 16 rfl rfl)
theorem dX12_init_19 : decode cX12_init 19 = .ok (.return_, 1) := dk_177 (dk_at dksX12_init_0 19 rfl rfl)
theorem q175 : (Jvm.Cond.initialized "GingerRents$Line") ∈ lw_all := lw_g (lw_at lw_m1 25 rfl) rfl
theorem q801 : (Jvm.Cond.instantiable "GingerRents$Line" (3 : Nat)) ∈ lw_all := lw_g (lw_at lw_m3 171 rfl) rfl
theorem q803 : (Jvm.Cond.instanceMethod ({ cls := "GingerRents$Line", name := "<init>", desc := "(ILGingerRents$Term;LGingerRents$Term;)V" } : Jvm.MethodName)) ∈ lw_all := lw_g (lw_at lw_m3 173 rfl) rfl
theorem q804 : (Jvm.Cond.code ({ cls := "GingerRents$Line", name := "<init>", desc := "(ILGingerRents$Term;LGingerRents$Term;)V" } : Jvm.MethodName) prog_13_method_1_code (4 : Nat) (Option.none : Option Jvm.ClassFile.FieldType)) ∈ lw_all := lw_g (lw_at lw_m3 174 rfl) rfl
theorem q805 : (Jvm.Cond.methodLink "GingerRents$Line" (1 : Nat) ({ cls := "java/lang/Object", name := "<init>", desc := "()V" } : Jvm.MethodName)) ∈ lw_all := lw_g (lw_at lw_m3 175 rfl) rfl
theorem q806 : (Jvm.Cond.fieldLink "GingerRents$Line" (7 : Nat) "GingerRents$Line" "word" "I") ∈ lw_all := lw_g (lw_at lw_m3 176 rfl) rfl
theorem q808 : (Jvm.Cond.fieldLink "GingerRents$Line" (13 : Nat) "GingerRents$Line" "comesTo" "LGingerRents$Term;") ∈ lw_all := lw_g (lw_at lw_m3 178 rfl) rfl
theorem q810 : (Jvm.Cond.fieldLink "GingerRents$Line" (17 : Nat) "GingerRents$Line" "when" "LGingerRents$Term;") ∈ lw_all := lw_g (lw_at lw_m3 180 rfl) rfl
theorem q812 : (Jvm.Cond.laysFinal "GingerRents$Line" "GingerRents$Line" "word" "I") ∈ lw_all := lw_g (lw_at lw_m3 182 rfl) rfl
theorem q813 : (Jvm.Cond.soleField "GingerRents$Line" "word") ∈ lw_all := lw_g (lw_at lw_m3 183 rfl) rfl
theorem q814 : (Jvm.Cond.laysFinal "GingerRents$Line" "GingerRents$Line" "comesTo" "LGingerRents$Term;") ∈ lw_all := lw_g (lw_at lw_m3 184 rfl) rfl
theorem q815 : (Jvm.Cond.soleField "GingerRents$Line" "comesTo") ∈ lw_all := lw_g (lw_at lw_m3 185 rfl) rfl
theorem q816 : (Jvm.Cond.laysFinal "GingerRents$Line" "GingerRents$Line" "when" "LGingerRents$Term;") ∈ lw_all := lw_g (lw_at lw_m3 186 rfl) rfl
theorem q817 : (Jvm.Cond.soleField "GingerRents$Line" "when") ∈ lw_all := lw_g (lw_at lw_m3 187 rfl) rfl
theorem q818 : (Jvm.Cond.superclass "GingerRents$Line" "java/lang/Object") ∈ lw_all := lw_g (lw_at lw_m3 188 rfl) rfl
theorem q861 : (Jvm.Cond.selects "GingerRents$Line" ({ cls := "java/lang/Object", name := "getClass", desc := "()Ljava/lang/Class;" } : Jvm.MethodName) ({ cls := "java/lang/Object", name := "getClass", desc := "()Ljava/lang/Class;" } : Jvm.MethodName)) ∈ lw_all := lw_g (lw_at lw_m3 231 rfl) rfl
theorem q2270 : (Jvm.Cond.castable "GingerRents$Line" "java/lang/Object") ∈ lw_tbl := lw_at lw_m9 200 rfl
theorem in_X12 : ∀ w ∈ wsX120, w ∈ lw_all := lw_in wsX120 [812, 814, 816] (by decide +kernel) (by decide +kernel)

/-! GingerRents$Entry -/
set_option maxRecDepth 100000
def RX13 : String := "GingerRents$Entry"
abbrev cX13_init : ByteArray := prog_5_method_1_code
def yX13_init : MethodName := ⟨RX13, "<init>", "(II)V"⟩
def dkwX13_init_0 : List UInt8 := [42, 183, 0, 1, 42, 27, 181, 0, 7, 42, 28, 181, 0, 13, 177]
abbrev dktX13_init_0 : List UInt8 := dkwX13_init_0 ++ []
theorem dksX13_init_0 : cX13_init.data.toList.drop 0 = dktX13_init_0 := by decide +kernel
theorem dX13_init_0 : decode cX13_init 0 = .ok (.aload_n 0, 1) := dk_42 (dk_at dksX13_init_0 0 rfl rfl)
theorem dX13_init_1 : decode cX13_init 1 = .ok (.invokespecial 1, 3) := dk_183 0 1 (dk_at dksX13_init_0 1 rfl rfl)
theorem dX13_init_4 : decode cX13_init 4 = .ok (.aload_n 0, 1) := dk_42 (dk_at dksX13_init_0 4 rfl rfl)
theorem dX13_init_5 : decode cX13_init 5 = .ok (.iload_n 1, 1) := dk_27 (dk_at dksX13_init_0 5 rfl rfl)
theorem dX13_init_6 : decode cX13_init 6 = .ok (.putfield 7, 3) := dk_181 0 7 (dk_at dksX13_init_0 6 rfl rfl)
theorem dX13_init_9 : decode cX13_init 9 = .ok (.aload_n 0, 1) := dk_42 (dk_at dksX13_init_0 9 rfl rfl)
theorem dX13_init_10 : decode cX13_init 10 = .ok (.iload_n 2, 1) := dk_28 (dk_at dksX13_init_0 10 rfl rfl)
theorem dX13_init_11 : decode cX13_init 11 = .ok (.putfield 13, 3) := dk_181 0 13 (dk_at dksX13_init_0 11 rfl rfl)
theorem dX13_init_14 : decode cX13_init 14 = .ok (.return_, 1) := dk_177 (dk_at dksX13_init_0 14 rfl rfl)
abbrev cX13_isOf : ByteArray := prog_5_method_2_code
def yX13_isOf : MethodName := ⟨RX13, "isOf", "(I)Z"⟩
def dkwX13_isOf_0 : List UInt8 := [42, 180, 0, 7, 27, 160, 0, 7, 4, 167, 0, 4, 3, 172]
abbrev dktX13_isOf_0 : List UInt8 := dkwX13_isOf_0 ++ []
theorem dksX13_isOf_0 : cX13_isOf.data.toList.drop 0 = dktX13_isOf_0 := by decide +kernel
theorem dX13_isOf_0 : decode cX13_isOf 0 = .ok (.aload_n 0, 1) := dk_42 (dk_at dksX13_isOf_0 0 rfl rfl)
theorem dX13_isOf_1 : decode cX13_isOf 1 = .ok (.getfield 7, 3) := dk_180 0 7 (dk_at dksX13_isOf_0 1 rfl rfl)
theorem dX13_isOf_4 : decode cX13_isOf 4 = .ok (.iload_n 1, 1) := dk_27 (dk_at dksX13_isOf_0 4 rfl rfl)
theorem dX13_isOf_5 : decode cX13_isOf 5 = .ok (.if_icmp .ne 7, 3) := dk_160 0 7 (dk_at dksX13_isOf_0 5 rfl rfl)
theorem dX13_isOf_8 : decode cX13_isOf 8 = .ok (.iconst 1, 1) := dk_4 (dk_at dksX13_isOf_0 8 rfl rfl)
theorem dX13_isOf_9 : decode cX13_isOf 9 = .ok (.goto 4, 3) := dk_167 0 4 (dk_at dksX13_isOf_0 9 rfl rfl)
theorem dX13_isOf_12 : decode cX13_isOf 12 = .ok (.iconst 0, 1) := dk_3 (dk_at dksX13_isOf_0 12 rfl rfl)
theorem dX13_isOf_13 : decode cX13_isOf 13 = .ok (.ireturn, 1) := dk_172 (dk_at dksX13_isOf_0 13 rfl rfl)
abbrev cX13_one : ByteArray := prog_5_method_3_code
def yX13_one : MethodName := ⟨RX13, "one", "()I"⟩
theorem dX13_one_0 : decode cX13_one 0 = .ok (.aload_n 0, 1) := by decide +kernel
theorem dX13_one_1 : decode cX13_one 1 = .ok (.getfield 13, 3) := by decide +kernel
theorem dX13_one_4 : decode cX13_one 4 = .ok (.ireturn, 1) := by decide +kernel
theorem q179 : (Jvm.Cond.initialized "GingerRents$Entry") ∈ lw_all := lw_g (lw_at lw_m1 29 rfl) rfl
theorem q900 : (Jvm.Cond.instanceMethod ({ cls := "GingerRents$Entry", name := "<init>", desc := "(II)V" } : Jvm.MethodName)) ∈ lw_all := lw_g (lw_at lw_m4 30 rfl) rfl
theorem q901 : (Jvm.Cond.code ({ cls := "GingerRents$Entry", name := "<init>", desc := "(II)V" } : Jvm.MethodName) prog_5_method_1_code (3 : Nat) (Option.none : Option Jvm.ClassFile.FieldType)) ∈ lw_all := lw_g (lw_at lw_m4 31 rfl) rfl
theorem q902 : (Jvm.Cond.methodLink "GingerRents$Entry" (1 : Nat) ({ cls := "java/lang/Object", name := "<init>", desc := "()V" } : Jvm.MethodName)) ∈ lw_all := lw_g (lw_at lw_m4 32 rfl) rfl
theorem q903 : (Jvm.Cond.fieldLink "GingerRents$Entry" (7 : Nat) "GingerRents$Entry" "quarter" "I") ∈ lw_all := lw_g (lw_at lw_m4 33 rfl) rfl
theorem q904 : (Jvm.Cond.fieldLink "GingerRents$Entry" (13 : Nat) "GingerRents$Entry" "one" "I") ∈ lw_all := lw_g (lw_at lw_m4 34 rfl) rfl
theorem q906 : (Jvm.Cond.soleField "GingerRents$Entry" "quarter") ∈ lw_all := lw_g (lw_at lw_m4 36 rfl) rfl
theorem q908 : (Jvm.Cond.soleField "GingerRents$Entry" "one") ∈ lw_all := lw_g (lw_at lw_m4 38 rfl) rfl
theorem q1118 : (Jvm.Cond.instanceMethod ({ cls := "GingerRents$Entry", name := "isOf", desc := "(I)Z" } : Jvm.MethodName)) ∈ lw_all := lw_g (lw_at lw_m5 8 rfl) rfl
theorem q1119 : (Jvm.Cond.sameMethod "GingerRents$Entry" "GingerRents$Entry" "isOf" "(I)Z") ∈ lw_all := lw_g (lw_at lw_m5 9 rfl) rfl
theorem q1126 : (Jvm.Cond.code ({ cls := "GingerRents$Entry", name := "isOf", desc := "(I)Z" } : Jvm.MethodName) prog_5_method_2_code (2 : Nat) (Option.some Jvm.ClassFile.FieldType.boolean)) ∈ lw_all := lw_g (lw_at lw_m5 16 rfl) rfl
theorem q1128 : (Jvm.Cond.declares ({ cls := "GingerRents$Entry", name := "comes", desc := "(LGingerRents$Borough;)V" } : Jvm.MethodName)) ∈ lw_tbl := lw_at lw_m5 18 rfl
theorem q1129 : (Jvm.Cond.sameMethod "GingerRents$Entry" "GingerRents$Entry" "comes" "(LGingerRents$Borough;)V") ∈ lw_all := lw_g (lw_at lw_m5 19 rfl) rfl
theorem q1135 : (Jvm.Cond.declares ({ cls := "GingerRents$Entry", name := "one", desc := "()I" } : Jvm.MethodName)) ∈ lw_tbl := lw_at lw_m5 25 rfl
theorem q1137 : (Jvm.Cond.instanceMethod ({ cls := "GingerRents$Entry", name := "one", desc := "()I" } : Jvm.MethodName)) ∈ lw_all := lw_g (lw_at lw_m5 27 rfl) rfl
theorem q1138 : (Jvm.Cond.code ({ cls := "GingerRents$Entry", name := "one", desc := "()I" } : Jvm.MethodName) prog_5_method_3_code (1 : Nat) (Option.some Jvm.ClassFile.FieldType.int)) ∈ lw_all := lw_g (lw_at lw_m5 28 rfl) rfl

/-! GingerRents$Rain -/
set_option maxRecDepth 100000
def RX14 : String := "GingerRents$Rain"
def TX14 : u_T := fun k => match k with
  | 0 => ("GingerRents$Entry", "quarter", "I", true)
  | _ => ("GingerRents$Entry", "one", "I", true)
def tyX14 : Nat → FieldType := fun k => match k with
  | 0 => .int
  | _ => .int
abbrev wsX140 : List Cond := u_ws RX14 TX14 2
theorem nmX14 : ∀ a, a < 2 → ∀ b, b < 2 → a ≠ b → (TX14 a).2.1 ≠ (TX14 b).2.1 := by decide +kernel
theorem tyX14_ok : ∀ k, k < 2 → parseFieldDescriptor (TX14 k).2.2.1 = some (tyX14 k) := by decide +kernel
abbrev cX14_init : ByteArray := prog_15_method_1_code
def yX14_init : MethodName := ⟨RX14, "<init>", "(II)V"⟩
def dkwX14_init_0 : List UInt8 := [42, 27, 28, 183, 0, 1, 177]
abbrev dktX14_init_0 : List UInt8 := dkwX14_init_0 ++ []
theorem dksX14_init_0 : cX14_init.data.toList.drop 0 = dktX14_init_0 := by decide +kernel
theorem dX14_init_0 : decode cX14_init 0 = .ok (.aload_n 0, 1) := dk_42 (dk_at dksX14_init_0 0 rfl rfl)
theorem dX14_init_1 : decode cX14_init 1 = .ok (.iload_n 1, 1) := dk_27 (dk_at dksX14_init_0 1 rfl rfl)
theorem dX14_init_2 : decode cX14_init 2 = .ok (.iload_n 2, 1) := dk_28 (dk_at dksX14_init_0 2 rfl rfl)
theorem dX14_init_3 : decode cX14_init 3 = .ok (.invokespecial 1, 3) := dk_183 0 1 (dk_at dksX14_init_0 3 rfl rfl)
theorem dX14_init_6 : decode cX14_init 6 = .ok (.return_, 1) := dk_177 (dk_at dksX14_init_0 6 rfl rfl)
abbrev cX14_comes : ByteArray := prog_15_method_2_code
def yX14_comes : MethodName := ⟨RX14, "comes", "(LGingerRents$Borough;)V"⟩
def dkwX14_comes_0 : List UInt8 := [43, 42, 182, 0, 7, 181, 0, 13, 177]
abbrev dktX14_comes_0 : List UInt8 := dkwX14_comes_0 ++ []
theorem dksX14_comes_0 : cX14_comes.data.toList.drop 0 = dktX14_comes_0 := by decide +kernel
theorem dX14_comes_0 : decode cX14_comes 0 = .ok (.aload_n 1, 1) := dk_43 (dk_at dksX14_comes_0 0 rfl rfl)
theorem dX14_comes_1 : decode cX14_comes 1 = .ok (.aload_n 0, 1) := dk_42 (dk_at dksX14_comes_0 1 rfl rfl)
theorem dX14_comes_2 : decode cX14_comes 2 = .ok (.invokevirtual 7, 3) := dk_182 0 7 (dk_at dksX14_comes_0 2 rfl rfl)
theorem dX14_comes_5 : decode cX14_comes 5 = .ok (.putfield 13, 3) := dk_181 0 13 (dk_at dksX14_comes_0 5 rfl rfl)
theorem dX14_comes_8 : decode cX14_comes 8 = .ok (.return_, 1) := dk_177 (dk_at dksX14_comes_0 8 rfl rfl)
theorem q180 : (Jvm.Cond.initialized "GingerRents$Rain") ∈ lw_all := lw_g (lw_at lw_m1 30 rfl) rfl
theorem q328 : (Jvm.Cond.fieldLinkNest "GingerRents$Rain" (13 : Nat) "GingerRents$Borough" "rain" "I" "GingerRents") ∈ lw_tbl := lw_at lw_m1 178 rfl
theorem q863 : (Jvm.Cond.selects "GingerRents$Rain" ({ cls := "java/lang/Object", name := "getClass", desc := "()Ljava/lang/Class;" } : Jvm.MethodName) ({ cls := "java/lang/Object", name := "getClass", desc := "()Ljava/lang/Class;" } : Jvm.MethodName)) ∈ lw_all := lw_g (lw_at lw_m3 233 rfl) rfl
theorem q895 : (Jvm.Cond.instantiable "GingerRents$Rain" (2 : Nat)) ∈ lw_all := lw_g (lw_at lw_m4 25 rfl) rfl
theorem q897 : (Jvm.Cond.instanceMethod ({ cls := "GingerRents$Rain", name := "<init>", desc := "(II)V" } : Jvm.MethodName)) ∈ lw_all := lw_g (lw_at lw_m4 27 rfl) rfl
theorem q898 : (Jvm.Cond.code ({ cls := "GingerRents$Rain", name := "<init>", desc := "(II)V" } : Jvm.MethodName) prog_15_method_1_code (3 : Nat) (Option.none : Option Jvm.ClassFile.FieldType)) ∈ lw_all := lw_g (lw_at lw_m4 28 rfl) rfl
theorem q899 : (Jvm.Cond.methodLink "GingerRents$Rain" (1 : Nat) ({ cls := "GingerRents$Entry", name := "<init>", desc := "(II)V" } : Jvm.MethodName)) ∈ lw_all := lw_g (lw_at lw_m4 29 rfl) rfl
theorem q905 : (Jvm.Cond.laysFinal "GingerRents$Rain" "GingerRents$Entry" "quarter" "I") ∈ lw_all := lw_g (lw_at lw_m4 35 rfl) rfl
theorem q907 : (Jvm.Cond.laysFinal "GingerRents$Rain" "GingerRents$Entry" "one" "I") ∈ lw_all := lw_g (lw_at lw_m4 37 rfl) rfl
theorem q909 : (Jvm.Cond.superclass "GingerRents$Rain" "GingerRents$Entry") ∈ lw_all := lw_g (lw_at lw_m4 39 rfl) rfl
theorem q1123 : (Jvm.Cond.selects "GingerRents$Rain" ({ cls := "GingerRents$Entry", name := "isOf", desc := "(I)Z" } : Jvm.MethodName) ({ cls := "GingerRents$Entry", name := "isOf", desc := "(I)Z" } : Jvm.MethodName)) ∈ lw_all := lw_g (lw_at lw_m5 13 rfl) rfl
theorem q1153 : (Jvm.Cond.selects "GingerRents$Rain" ({ cls := "GingerRents$Entry", name := "comes", desc := "(LGingerRents$Borough;)V" } : Jvm.MethodName) ({ cls := "GingerRents$Rain", name := "comes", desc := "(LGingerRents$Borough;)V" } : Jvm.MethodName)) ∈ lw_all := lw_g (lw_at lw_m5 43 rfl) rfl
theorem q1154 : (Jvm.Cond.instanceMethod ({ cls := "GingerRents$Rain", name := "comes", desc := "(LGingerRents$Borough;)V" } : Jvm.MethodName)) ∈ lw_all := lw_g (lw_at lw_m5 44 rfl) rfl
theorem q1155 : (Jvm.Cond.code ({ cls := "GingerRents$Rain", name := "comes", desc := "(LGingerRents$Borough;)V" } : Jvm.MethodName) prog_15_method_2_code (2 : Nat) (Option.none : Option Jvm.ClassFile.FieldType)) ∈ lw_all := lw_g (lw_at lw_m5 45 rfl) rfl
theorem q1156 : (Jvm.Cond.methodLink "GingerRents$Rain" (7 : Nat) ({ cls := "GingerRents$Rain", name := "one", desc := "()I" } : Jvm.MethodName)) ∈ lw_all := lw_g (lw_at lw_m5 46 rfl) rfl
theorem q1157 : (Jvm.Cond.sameMethod "GingerRents$Rain" "GingerRents$Entry" "one" "()I") ∈ lw_all := lw_g (lw_at lw_m5 47 rfl) rfl
theorem q1158 : (Jvm.Cond.selects "GingerRents$Rain" ({ cls := "GingerRents$Rain", name := "one", desc := "()I" } : Jvm.MethodName) ({ cls := "GingerRents$Entry", name := "one", desc := "()I" } : Jvm.MethodName)) ∈ lw_all := lw_g (lw_at lw_m5 48 rfl) rfl
theorem q2255 : (Jvm.Cond.castable "GingerRents$Rain" "GingerRents$Entry") ∈ lw_tbl := lw_at lw_m9 185 rfl
theorem q2271 : (Jvm.Cond.castable "GingerRents$Rain" "java/lang/Object") ∈ lw_tbl := lw_at lw_m9 201 rfl
theorem in_X14 : ∀ w ∈ wsX140, w ∈ lw_all := lw_in wsX140 [905, 907] (by decide +kernel) (by decide +kernel)

/-! GingerRents$Frost -/
set_option maxRecDepth 100000
def RX15 : String := "GingerRents$Frost"
def TX15 : u_T := fun k => match k with
  | 0 => ("GingerRents$Entry", "quarter", "I", true)
  | _ => ("GingerRents$Entry", "one", "I", true)
def tyX15 : Nat → FieldType := fun k => match k with
  | 0 => .int
  | _ => .int
abbrev wsX150 : List Cond := u_ws RX15 TX15 2
theorem nmX15 : ∀ a, a < 2 → ∀ b, b < 2 → a ≠ b → (TX15 a).2.1 ≠ (TX15 b).2.1 := by decide +kernel
theorem tyX15_ok : ∀ k, k < 2 → parseFieldDescriptor (TX15 k).2.2.1 = some (tyX15 k) := by decide +kernel
abbrev cX15_init : ByteArray := prog_8_method_1_code
def yX15_init : MethodName := ⟨RX15, "<init>", "(II)V"⟩
def dkwX15_init_0 : List UInt8 := [42, 27, 28, 183, 0, 1, 177]
abbrev dktX15_init_0 : List UInt8 := dkwX15_init_0 ++ []
theorem dksX15_init_0 : cX15_init.data.toList.drop 0 = dktX15_init_0 := by decide +kernel
theorem dX15_init_0 : decode cX15_init 0 = .ok (.aload_n 0, 1) := dk_42 (dk_at dksX15_init_0 0 rfl rfl)
theorem dX15_init_1 : decode cX15_init 1 = .ok (.iload_n 1, 1) := dk_27 (dk_at dksX15_init_0 1 rfl rfl)
theorem dX15_init_2 : decode cX15_init 2 = .ok (.iload_n 2, 1) := dk_28 (dk_at dksX15_init_0 2 rfl rfl)
theorem dX15_init_3 : decode cX15_init 3 = .ok (.invokespecial 1, 3) := dk_183 0 1 (dk_at dksX15_init_0 3 rfl rfl)
theorem dX15_init_6 : decode cX15_init 6 = .ok (.return_, 1) := dk_177 (dk_at dksX15_init_0 6 rfl rfl)
abbrev cX15_comes : ByteArray := prog_8_method_2_code
def yX15_comes : MethodName := ⟨RX15, "comes", "(LGingerRents$Borough;)V"⟩
def dkwX15_comes_0 : List UInt8 := [43, 42, 182, 0, 7, 181, 0, 13, 177]
abbrev dktX15_comes_0 : List UInt8 := dkwX15_comes_0 ++ []
theorem dksX15_comes_0 : cX15_comes.data.toList.drop 0 = dktX15_comes_0 := by decide +kernel
theorem dX15_comes_0 : decode cX15_comes 0 = .ok (.aload_n 1, 1) := dk_43 (dk_at dksX15_comes_0 0 rfl rfl)
theorem dX15_comes_1 : decode cX15_comes 1 = .ok (.aload_n 0, 1) := dk_42 (dk_at dksX15_comes_0 1 rfl rfl)
theorem dX15_comes_2 : decode cX15_comes 2 = .ok (.invokevirtual 7, 3) := dk_182 0 7 (dk_at dksX15_comes_0 2 rfl rfl)
theorem dX15_comes_5 : decode cX15_comes 5 = .ok (.putfield 13, 3) := dk_181 0 13 (dk_at dksX15_comes_0 5 rfl rfl)
theorem dX15_comes_8 : decode cX15_comes 8 = .ok (.return_, 1) := dk_177 (dk_at dksX15_comes_0 8 rfl rfl)
theorem q181 : (Jvm.Cond.initialized "GingerRents$Frost") ∈ lw_all := lw_g (lw_at lw_m1 31 rfl) rfl
theorem q331 : (Jvm.Cond.fieldLinkNest "GingerRents$Frost" (13 : Nat) "GingerRents$Borough" "frost" "I" "GingerRents") ∈ lw_tbl := lw_at lw_m1 181 rfl
theorem q856 : (Jvm.Cond.selects "GingerRents$Frost" ({ cls := "java/lang/Object", name := "getClass", desc := "()Ljava/lang/Class;" } : Jvm.MethodName) ({ cls := "java/lang/Object", name := "getClass", desc := "()Ljava/lang/Class;" } : Jvm.MethodName)) ∈ lw_all := lw_g (lw_at lw_m3 226 rfl) rfl
theorem q911 : (Jvm.Cond.instantiable "GingerRents$Frost" (2 : Nat)) ∈ lw_all := lw_g (lw_at lw_m4 41 rfl) rfl
theorem q913 : (Jvm.Cond.instanceMethod ({ cls := "GingerRents$Frost", name := "<init>", desc := "(II)V" } : Jvm.MethodName)) ∈ lw_all := lw_g (lw_at lw_m4 43 rfl) rfl
theorem q914 : (Jvm.Cond.code ({ cls := "GingerRents$Frost", name := "<init>", desc := "(II)V" } : Jvm.MethodName) prog_8_method_1_code (3 : Nat) (Option.none : Option Jvm.ClassFile.FieldType)) ∈ lw_all := lw_g (lw_at lw_m4 44 rfl) rfl
theorem q915 : (Jvm.Cond.methodLink "GingerRents$Frost" (1 : Nat) ({ cls := "GingerRents$Entry", name := "<init>", desc := "(II)V" } : Jvm.MethodName)) ∈ lw_all := lw_g (lw_at lw_m4 45 rfl) rfl
theorem q916 : (Jvm.Cond.laysFinal "GingerRents$Frost" "GingerRents$Entry" "quarter" "I") ∈ lw_all := lw_g (lw_at lw_m4 46 rfl) rfl
theorem q917 : (Jvm.Cond.laysFinal "GingerRents$Frost" "GingerRents$Entry" "one" "I") ∈ lw_all := lw_g (lw_at lw_m4 47 rfl) rfl
theorem q918 : (Jvm.Cond.superclass "GingerRents$Frost" "GingerRents$Entry") ∈ lw_all := lw_g (lw_at lw_m4 48 rfl) rfl
theorem q1121 : (Jvm.Cond.selects "GingerRents$Frost" ({ cls := "GingerRents$Entry", name := "isOf", desc := "(I)Z" } : Jvm.MethodName) ({ cls := "GingerRents$Entry", name := "isOf", desc := "(I)Z" } : Jvm.MethodName)) ∈ lw_all := lw_g (lw_at lw_m5 11 rfl) rfl
theorem q1140 : (Jvm.Cond.selects "GingerRents$Frost" ({ cls := "GingerRents$Entry", name := "comes", desc := "(LGingerRents$Borough;)V" } : Jvm.MethodName) ({ cls := "GingerRents$Frost", name := "comes", desc := "(LGingerRents$Borough;)V" } : Jvm.MethodName)) ∈ lw_all := lw_g (lw_at lw_m5 30 rfl) rfl
theorem q1141 : (Jvm.Cond.instanceMethod ({ cls := "GingerRents$Frost", name := "comes", desc := "(LGingerRents$Borough;)V" } : Jvm.MethodName)) ∈ lw_all := lw_g (lw_at lw_m5 31 rfl) rfl
theorem q1142 : (Jvm.Cond.code ({ cls := "GingerRents$Frost", name := "comes", desc := "(LGingerRents$Borough;)V" } : Jvm.MethodName) prog_8_method_2_code (2 : Nat) (Option.none : Option Jvm.ClassFile.FieldType)) ∈ lw_all := lw_g (lw_at lw_m5 32 rfl) rfl
theorem q1143 : (Jvm.Cond.methodLink "GingerRents$Frost" (7 : Nat) ({ cls := "GingerRents$Frost", name := "one", desc := "()I" } : Jvm.MethodName)) ∈ lw_all := lw_g (lw_at lw_m5 33 rfl) rfl
theorem q1144 : (Jvm.Cond.sameMethod "GingerRents$Frost" "GingerRents$Entry" "one" "()I") ∈ lw_all := lw_g (lw_at lw_m5 34 rfl) rfl
theorem q1145 : (Jvm.Cond.selects "GingerRents$Frost" ({ cls := "GingerRents$Frost", name := "one", desc := "()I" } : Jvm.MethodName) ({ cls := "GingerRents$Entry", name := "one", desc := "()I" } : Jvm.MethodName)) ∈ lw_all := lw_g (lw_at lw_m5 35 rfl) rfl
theorem q2253 : (Jvm.Cond.castable "GingerRents$Frost" "GingerRents$Entry") ∈ lw_tbl := lw_at lw_m9 183 rfl
theorem q2272 : (Jvm.Cond.castable "GingerRents$Frost" "java/lang/Object") ∈ lw_tbl := lw_at lw_m9 202 rfl
theorem in_X15 : ∀ w ∈ wsX150, w ∈ lw_all := lw_in wsX150 [916, 917] (by decide +kernel) (by decide +kernel)

/-! GingerRents$Ice -/
set_option maxRecDepth 100000
def RX16 : String := "GingerRents$Ice"
def TX16 : u_T := fun k => match k with
  | 0 => ("GingerRents$Entry", "quarter", "I", true)
  | 1 => ("GingerRents$Entry", "one", "I", true)
  | _ => ("GingerRents$Ice", "much", "I", true)
def tyX16 : Nat → FieldType := fun k => match k with
  | 0 => .int
  | 1 => .int
  | _ => .int
abbrev wsX160 : List Cond := u_ws RX16 TX16 3
theorem nmX16 : ∀ a, a < 3 → ∀ b, b < 3 → a ≠ b → (TX16 a).2.1 ≠ (TX16 b).2.1 := by decide +kernel
theorem tyX16_ok : ∀ k, k < 3 → parseFieldDescriptor (TX16 k).2.2.1 = some (tyX16 k) := by decide +kernel
abbrev cX16_init : ByteArray := prog_10_method_1_code
def yX16_init : MethodName := ⟨RX16, "<init>", "(III)V"⟩
def dkwX16_init_0 : List UInt8 := [42, 27, 28, 183, 0, 1, 42, 29, 181, 0, 7, 177]
abbrev dktX16_init_0 : List UInt8 := dkwX16_init_0 ++ []
theorem dksX16_init_0 : cX16_init.data.toList.drop 0 = dktX16_init_0 := by decide +kernel
theorem dX16_init_0 : decode cX16_init 0 = .ok (.aload_n 0, 1) := dk_42 (dk_at dksX16_init_0 0 rfl rfl)
theorem dX16_init_1 : decode cX16_init 1 = .ok (.iload_n 1, 1) := dk_27 (dk_at dksX16_init_0 1 rfl rfl)
theorem dX16_init_2 : decode cX16_init 2 = .ok (.iload_n 2, 1) := dk_28 (dk_at dksX16_init_0 2 rfl rfl)
theorem dX16_init_3 : decode cX16_init 3 = .ok (.invokespecial 1, 3) := dk_183 0 1 (dk_at dksX16_init_0 3 rfl rfl)
theorem dX16_init_6 : decode cX16_init 6 = .ok (.aload_n 0, 1) := dk_42 (dk_at dksX16_init_0 6 rfl rfl)
theorem dX16_init_7 : decode cX16_init 7 = .ok (.iload_n 3, 1) := dk_29 (dk_at dksX16_init_0 7 rfl rfl)
theorem dX16_init_8 : decode cX16_init 8 = .ok (.putfield 7, 3) := dk_181 0 7 (dk_at dksX16_init_0 8 rfl rfl)
theorem dX16_init_11 : decode cX16_init 11 = .ok (.return_, 1) := dk_177 (dk_at dksX16_init_0 11 rfl rfl)
abbrev cX16_comes : ByteArray := prog_10_method_2_code
def yX16_comes : MethodName := ⟨RX16, "comes", "(LGingerRents$Borough;)V"⟩
def dkwX16_comes_1 : List UInt8 := [180, 0, 7, 100, 184, 0, 28, 181, 0, 23, 177]
abbrev dktX16_comes_1 : List UInt8 := dkwX16_comes_1 ++ []
def dkwX16_comes_0 : List UInt8 := [43, 180, 0, 13, 42, 182, 0, 19, 50, 3, 43, 180, 0, 13, 42, 182, 0, 19, 50, 180, 0, 23, 42]
abbrev dktX16_comes_0 : List UInt8 := dkwX16_comes_0 ++ dktX16_comes_1
theorem dksX16_comes_0 : cX16_comes.data.toList.drop 0 = dktX16_comes_0 := by decide +kernel
theorem dksX16_comes_1 : cX16_comes.data.toList.drop 23 = dktX16_comes_1 := dk_seg dksX16_comes_0 23 rfl rfl
theorem dX16_comes_0 : decode cX16_comes 0 = .ok (.aload_n 1, 1) := dk_43 (dk_at dksX16_comes_0 0 rfl rfl)
theorem dX16_comes_1 : decode cX16_comes 1 = .ok (.getfield 13, 3) := dk_180 0 13 (dk_at dksX16_comes_0 1 rfl rfl)
theorem dX16_comes_4 : decode cX16_comes 4 = .ok (.aload_n 0, 1) := dk_42 (dk_at dksX16_comes_0 4 rfl rfl)
theorem dX16_comes_5 : decode cX16_comes 5 = .ok (.invokevirtual 19, 3) := dk_182 0 19 (dk_at dksX16_comes_0 5 rfl rfl)
theorem dX16_comes_8 : decode cX16_comes 8 = .ok (.aaload, 1) := dk_50 (dk_at dksX16_comes_0 8 rfl rfl)
theorem dX16_comes_9 : decode cX16_comes 9 = .ok (.iconst 0, 1) := dk_3 (dk_at dksX16_comes_0 9 rfl rfl)
theorem dX16_comes_10 : decode cX16_comes 10 = .ok (.aload_n 1, 1) := dk_43 (dk_at dksX16_comes_0 10 rfl rfl)
theorem dX16_comes_11 : decode cX16_comes 11 = .ok (.getfield 13, 3) := dk_180 0 13 (dk_at dksX16_comes_0 11 rfl rfl)
theorem dX16_comes_14 : decode cX16_comes 14 = .ok (.aload_n 0, 1) := dk_42 (dk_at dksX16_comes_0 14 rfl rfl)
theorem dX16_comes_15 : decode cX16_comes 15 = .ok (.invokevirtual 19, 3) := dk_182 0 19 (dk_at dksX16_comes_0 15 rfl rfl)
theorem dX16_comes_18 : decode cX16_comes 18 = .ok (.aaload, 1) := dk_50 (dk_at dksX16_comes_0 18 rfl rfl)
theorem dX16_comes_19 : decode cX16_comes 19 = .ok (.getfield 23, 3) := dk_180 0 23 (dk_at dksX16_comes_0 19 rfl rfl)
theorem dX16_comes_22 : decode cX16_comes 22 = .ok (.aload_n 0, 1) := dk_42 (dk_at dksX16_comes_0 22 rfl rfl)
theorem dX16_comes_23 : decode cX16_comes 23 = .ok (.getfield 7, 3) := dk_180 0 7 (dk_at dksX16_comes_1 0 rfl rfl)
theorem dX16_comes_26 : decode cX16_comes 26 = .ok (.isub, 1) := dk_100 (dk_at dksX16_comes_1 3 rfl rfl)
theorem dX16_comes_27 : decode cX16_comes 27 = .ok (.invokestatic 28, 3) := dk_184 0 28 (dk_at dksX16_comes_1 4 rfl rfl)
theorem dX16_comes_30 : decode cX16_comes 30 = .ok (.putfield 23, 3) := dk_181 0 23 (dk_at dksX16_comes_1 7 rfl rfl)
theorem dX16_comes_33 : decode cX16_comes 33 = .ok (.return_, 1) := dk_177 (dk_at dksX16_comes_1 10 rfl rfl)
theorem q182 : (Jvm.Cond.initialized "GingerRents$Ice") ∈ lw_all := lw_g (lw_at lw_m1 32 rfl) rfl
theorem q264 : (Jvm.Cond.fieldLinkNest "GingerRents$Ice" (23 : Nat) "GingerRents$House" "icing" "I" "GingerRents") ∈ lw_tbl := lw_at lw_m1 114 rfl
theorem q296 : (Jvm.Cond.fieldLinkNest "GingerRents$Ice" (13 : Nat) "GingerRents$Borough" "house" "[LGingerRents$House;" "GingerRents") ∈ lw_tbl := lw_at lw_m1 146 rfl
theorem q858 : (Jvm.Cond.selects "GingerRents$Ice" ({ cls := "java/lang/Object", name := "getClass", desc := "()Ljava/lang/Class;" } : Jvm.MethodName) ({ cls := "java/lang/Object", name := "getClass", desc := "()Ljava/lang/Class;" } : Jvm.MethodName)) ∈ lw_all := lw_g (lw_at lw_m3 228 rfl) rfl
theorem q928 : (Jvm.Cond.instantiable "GingerRents$Ice" (3 : Nat)) ∈ lw_all := lw_g (lw_at lw_m4 58 rfl) rfl
theorem q930 : (Jvm.Cond.instanceMethod ({ cls := "GingerRents$Ice", name := "<init>", desc := "(III)V" } : Jvm.MethodName)) ∈ lw_all := lw_g (lw_at lw_m4 60 rfl) rfl
theorem q931 : (Jvm.Cond.code ({ cls := "GingerRents$Ice", name := "<init>", desc := "(III)V" } : Jvm.MethodName) prog_10_method_1_code (4 : Nat) (Option.none : Option Jvm.ClassFile.FieldType)) ∈ lw_all := lw_g (lw_at lw_m4 61 rfl) rfl
theorem q932 : (Jvm.Cond.methodLink "GingerRents$Ice" (1 : Nat) ({ cls := "GingerRents$Entry", name := "<init>", desc := "(II)V" } : Jvm.MethodName)) ∈ lw_all := lw_g (lw_at lw_m4 62 rfl) rfl
theorem q933 : (Jvm.Cond.fieldLink "GingerRents$Ice" (7 : Nat) "GingerRents$Ice" "much" "I") ∈ lw_all := lw_g (lw_at lw_m4 63 rfl) rfl
theorem q934 : (Jvm.Cond.laysFinal "GingerRents$Ice" "GingerRents$Ice" "much" "I") ∈ lw_all := lw_g (lw_at lw_m4 64 rfl) rfl
theorem q935 : (Jvm.Cond.soleField "GingerRents$Ice" "much") ∈ lw_all := lw_g (lw_at lw_m4 65 rfl) rfl
theorem q936 : (Jvm.Cond.laysFinal "GingerRents$Ice" "GingerRents$Entry" "quarter" "I") ∈ lw_all := lw_g (lw_at lw_m4 66 rfl) rfl
theorem q937 : (Jvm.Cond.laysFinal "GingerRents$Ice" "GingerRents$Entry" "one" "I") ∈ lw_all := lw_g (lw_at lw_m4 67 rfl) rfl
theorem q938 : (Jvm.Cond.superclass "GingerRents$Ice" "GingerRents$Entry") ∈ lw_all := lw_g (lw_at lw_m4 68 rfl) rfl
theorem q1122 : (Jvm.Cond.selects "GingerRents$Ice" ({ cls := "GingerRents$Entry", name := "isOf", desc := "(I)Z" } : Jvm.MethodName) ({ cls := "GingerRents$Entry", name := "isOf", desc := "(I)Z" } : Jvm.MethodName)) ∈ lw_all := lw_g (lw_at lw_m5 12 rfl) rfl
theorem q1146 : (Jvm.Cond.selects "GingerRents$Ice" ({ cls := "GingerRents$Entry", name := "comes", desc := "(LGingerRents$Borough;)V" } : Jvm.MethodName) ({ cls := "GingerRents$Ice", name := "comes", desc := "(LGingerRents$Borough;)V" } : Jvm.MethodName)) ∈ lw_all := lw_g (lw_at lw_m5 36 rfl) rfl
theorem q1147 : (Jvm.Cond.instanceMethod ({ cls := "GingerRents$Ice", name := "comes", desc := "(LGingerRents$Borough;)V" } : Jvm.MethodName)) ∈ lw_all := lw_g (lw_at lw_m5 37 rfl) rfl
theorem q1148 : (Jvm.Cond.code ({ cls := "GingerRents$Ice", name := "comes", desc := "(LGingerRents$Borough;)V" } : Jvm.MethodName) prog_10_method_2_code (2 : Nat) (Option.none : Option Jvm.ClassFile.FieldType)) ∈ lw_all := lw_g (lw_at lw_m5 38 rfl) rfl
theorem q1149 : (Jvm.Cond.methodLink "GingerRents$Ice" (19 : Nat) ({ cls := "GingerRents$Ice", name := "one", desc := "()I" } : Jvm.MethodName)) ∈ lw_all := lw_g (lw_at lw_m5 39 rfl) rfl
theorem q1150 : (Jvm.Cond.sameMethod "GingerRents$Ice" "GingerRents$Entry" "one" "()I") ∈ lw_all := lw_g (lw_at lw_m5 40 rfl) rfl
theorem q1151 : (Jvm.Cond.selects "GingerRents$Ice" ({ cls := "GingerRents$Ice", name := "one", desc := "()I" } : Jvm.MethodName) ({ cls := "GingerRents$Entry", name := "one", desc := "()I" } : Jvm.MethodName)) ∈ lw_all := lw_g (lw_at lw_m5 41 rfl) rfl
theorem q1152 : (Jvm.Cond.methodLink "GingerRents$Ice" (28 : Nat) ({ cls := "java/lang/Math", name := "max", desc := "(II)I" } : Jvm.MethodName)) ∈ lw_all := lw_g (lw_at lw_m5 42 rfl) rfl
theorem q2254 : (Jvm.Cond.castable "GingerRents$Ice" "GingerRents$Entry") ∈ lw_tbl := lw_at lw_m9 184 rfl
theorem q2273 : (Jvm.Cond.castable "GingerRents$Ice" "java/lang/Object") ∈ lw_tbl := lw_at lw_m9 203 rfl
theorem in_X16 : ∀ w ∈ wsX160, w ∈ lw_all := lw_in wsX160 [936, 937, 934] (by decide +kernel) (by decide +kernel)

/-! GingerRents$Bake -/
set_option maxRecDepth 100000
def RX17 : String := "GingerRents$Bake"
def TX17 : u_T := fun k => match k with
  | 0 => ("GingerRents$Entry", "quarter", "I", true)
  | 1 => ("GingerRents$Entry", "one", "I", true)
  | 2 => ("GingerRents$Bake", "wall", "I", true)
  | _ => ("GingerRents$Bake", "much", "I", true)
def tyX17 : Nat → FieldType := fun k => match k with
  | 0 => .int
  | 1 => .int
  | 2 => .int
  | _ => .int
abbrev wsX170 : List Cond := u_ws RX17 TX17 4
theorem nmX17 : ∀ a, a < 4 → ∀ b, b < 4 → a ≠ b → (TX17 a).2.1 ≠ (TX17 b).2.1 := by decide +kernel
theorem tyX17_ok : ∀ k, k < 4 → parseFieldDescriptor (TX17 k).2.2.1 = some (tyX17 k) := by decide +kernel
abbrev cX17_init : ByteArray := prog_3_method_1_code
def yX17_init : MethodName := ⟨RX17, "<init>", "(IIII)V"⟩
def dkwX17_init_0 : List UInt8 := [42, 27, 28, 183, 0, 1, 42, 29, 181, 0, 7, 42, 21, 4, 181, 0, 13, 177]
abbrev dktX17_init_0 : List UInt8 := dkwX17_init_0 ++ []
theorem dksX17_init_0 : cX17_init.data.toList.drop 0 = dktX17_init_0 := by decide +kernel
theorem dX17_init_0 : decode cX17_init 0 = .ok (.aload_n 0, 1) := dk_42 (dk_at dksX17_init_0 0 rfl rfl)
theorem dX17_init_1 : decode cX17_init 1 = .ok (.iload_n 1, 1) := dk_27 (dk_at dksX17_init_0 1 rfl rfl)
theorem dX17_init_2 : decode cX17_init 2 = .ok (.iload_n 2, 1) := dk_28 (dk_at dksX17_init_0 2 rfl rfl)
theorem dX17_init_3 : decode cX17_init 3 = .ok (.invokespecial 1, 3) := dk_183 0 1 (dk_at dksX17_init_0 3 rfl rfl)
theorem dX17_init_6 : decode cX17_init 6 = .ok (.aload_n 0, 1) := dk_42 (dk_at dksX17_init_0 6 rfl rfl)
theorem dX17_init_7 : decode cX17_init 7 = .ok (.iload_n 3, 1) := dk_29 (dk_at dksX17_init_0 7 rfl rfl)
theorem dX17_init_8 : decode cX17_init 8 = .ok (.putfield 7, 3) := dk_181 0 7 (dk_at dksX17_init_0 8 rfl rfl)
theorem dX17_init_11 : decode cX17_init 11 = .ok (.aload_n 0, 1) := dk_42 (dk_at dksX17_init_0 11 rfl rfl)
theorem dX17_init_12 : decode cX17_init 12 = .ok (.iload 4, 2) := dk_21 4 (dk_at dksX17_init_0 12 rfl rfl)
theorem dX17_init_14 : decode cX17_init 14 = .ok (.putfield 13, 3) := dk_181 0 13 (dk_at dksX17_init_0 14 rfl rfl)
theorem dX17_init_17 : decode cX17_init 17 = .ok (.return_, 1) := dk_177 (dk_at dksX17_init_0 17 rfl rfl)
abbrev cX17_comes : ByteArray := prog_3_method_2_code
def yX17_comes : MethodName := ⟨RX17, "comes", "(LGingerRents$Borough;)V"⟩
def dkwX17_comes_0 : List UInt8 := [43, 180, 0, 16, 42, 182, 0, 22, 50, 42, 180, 0, 7, 42, 180, 0, 13, 182, 0, 26, 177]
abbrev dktX17_comes_0 : List UInt8 := dkwX17_comes_0 ++ []
theorem dksX17_comes_0 : cX17_comes.data.toList.drop 0 = dktX17_comes_0 := by decide +kernel
theorem dX17_comes_0 : decode cX17_comes 0 = .ok (.aload_n 1, 1) := dk_43 (dk_at dksX17_comes_0 0 rfl rfl)
theorem dX17_comes_1 : decode cX17_comes 1 = .ok (.getfield 16, 3) := dk_180 0 16 (dk_at dksX17_comes_0 1 rfl rfl)
theorem dX17_comes_4 : decode cX17_comes 4 = .ok (.aload_n 0, 1) := dk_42 (dk_at dksX17_comes_0 4 rfl rfl)
theorem dX17_comes_5 : decode cX17_comes 5 = .ok (.invokevirtual 22, 3) := dk_182 0 22 (dk_at dksX17_comes_0 5 rfl rfl)
theorem dX17_comes_8 : decode cX17_comes 8 = .ok (.aaload, 1) := dk_50 (dk_at dksX17_comes_0 8 rfl rfl)
theorem dX17_comes_9 : decode cX17_comes 9 = .ok (.aload_n 0, 1) := dk_42 (dk_at dksX17_comes_0 9 rfl rfl)
theorem dX17_comes_10 : decode cX17_comes 10 = .ok (.getfield 7, 3) := dk_180 0 7 (dk_at dksX17_comes_0 10 rfl rfl)
theorem dX17_comes_13 : decode cX17_comes 13 = .ok (.aload_n 0, 1) := dk_42 (dk_at dksX17_comes_0 13 rfl rfl)
theorem dX17_comes_14 : decode cX17_comes 14 = .ok (.getfield 13, 3) := dk_180 0 13 (dk_at dksX17_comes_0 14 rfl rfl)
theorem dX17_comes_17 : decode cX17_comes 17 = .ok (.invokevirtual 26, 3) := dk_182 0 26 (dk_at dksX17_comes_0 17 rfl rfl)
theorem dX17_comes_20 : decode cX17_comes 20 = .ok (.return_, 1) := dk_177 (dk_at dksX17_comes_0 20 rfl rfl)
theorem q183 : (Jvm.Cond.initialized "GingerRents$Bake") ∈ lw_all := lw_g (lw_at lw_m1 33 rfl) rfl
theorem q295 : (Jvm.Cond.fieldLinkNest "GingerRents$Bake" (16 : Nat) "GingerRents$Borough" "house" "[LGingerRents$House;" "GingerRents") ∈ lw_tbl := lw_at lw_m1 145 rfl
theorem q852 : (Jvm.Cond.selects "GingerRents$Bake" ({ cls := "java/lang/Object", name := "getClass", desc := "()Ljava/lang/Class;" } : Jvm.MethodName) ({ cls := "java/lang/Object", name := "getClass", desc := "()Ljava/lang/Class;" } : Jvm.MethodName)) ∈ lw_all := lw_g (lw_at lw_m3 222 rfl) rfl
theorem q940 : (Jvm.Cond.instantiable "GingerRents$Bake" (4 : Nat)) ∈ lw_all := lw_g (lw_at lw_m4 70 rfl) rfl
theorem q942 : (Jvm.Cond.instanceMethod ({ cls := "GingerRents$Bake", name := "<init>", desc := "(IIII)V" } : Jvm.MethodName)) ∈ lw_all := lw_g (lw_at lw_m4 72 rfl) rfl
theorem q943 : (Jvm.Cond.code ({ cls := "GingerRents$Bake", name := "<init>", desc := "(IIII)V" } : Jvm.MethodName) prog_3_method_1_code (5 : Nat) (Option.none : Option Jvm.ClassFile.FieldType)) ∈ lw_all := lw_g (lw_at lw_m4 73 rfl) rfl
theorem q944 : (Jvm.Cond.methodLink "GingerRents$Bake" (1 : Nat) ({ cls := "GingerRents$Entry", name := "<init>", desc := "(II)V" } : Jvm.MethodName)) ∈ lw_all := lw_g (lw_at lw_m4 74 rfl) rfl
theorem q945 : (Jvm.Cond.fieldLink "GingerRents$Bake" (7 : Nat) "GingerRents$Bake" "wall" "I") ∈ lw_all := lw_g (lw_at lw_m4 75 rfl) rfl
theorem q946 : (Jvm.Cond.fieldLink "GingerRents$Bake" (13 : Nat) "GingerRents$Bake" "much" "I") ∈ lw_all := lw_g (lw_at lw_m4 76 rfl) rfl
theorem q947 : (Jvm.Cond.laysFinal "GingerRents$Bake" "GingerRents$Bake" "wall" "I") ∈ lw_all := lw_g (lw_at lw_m4 77 rfl) rfl
theorem q948 : (Jvm.Cond.soleField "GingerRents$Bake" "wall") ∈ lw_all := lw_g (lw_at lw_m4 78 rfl) rfl
theorem q949 : (Jvm.Cond.laysFinal "GingerRents$Bake" "GingerRents$Bake" "much" "I") ∈ lw_all := lw_g (lw_at lw_m4 79 rfl) rfl
theorem q950 : (Jvm.Cond.soleField "GingerRents$Bake" "much") ∈ lw_all := lw_g (lw_at lw_m4 80 rfl) rfl
theorem q951 : (Jvm.Cond.laysFinal "GingerRents$Bake" "GingerRents$Entry" "quarter" "I") ∈ lw_all := lw_g (lw_at lw_m4 81 rfl) rfl
theorem q952 : (Jvm.Cond.laysFinal "GingerRents$Bake" "GingerRents$Entry" "one" "I") ∈ lw_all := lw_g (lw_at lw_m4 82 rfl) rfl
theorem q953 : (Jvm.Cond.superclass "GingerRents$Bake" "GingerRents$Entry") ∈ lw_all := lw_g (lw_at lw_m4 83 rfl) rfl
theorem q1120 : (Jvm.Cond.selects "GingerRents$Bake" ({ cls := "GingerRents$Entry", name := "isOf", desc := "(I)Z" } : Jvm.MethodName) ({ cls := "GingerRents$Entry", name := "isOf", desc := "(I)Z" } : Jvm.MethodName)) ∈ lw_all := lw_g (lw_at lw_m5 10 rfl) rfl
theorem q1130 : (Jvm.Cond.selects "GingerRents$Bake" ({ cls := "GingerRents$Entry", name := "comes", desc := "(LGingerRents$Borough;)V" } : Jvm.MethodName) ({ cls := "GingerRents$Bake", name := "comes", desc := "(LGingerRents$Borough;)V" } : Jvm.MethodName)) ∈ lw_all := lw_g (lw_at lw_m5 20 rfl) rfl
theorem q1131 : (Jvm.Cond.instanceMethod ({ cls := "GingerRents$Bake", name := "comes", desc := "(LGingerRents$Borough;)V" } : Jvm.MethodName)) ∈ lw_all := lw_g (lw_at lw_m5 21 rfl) rfl
theorem q1132 : (Jvm.Cond.code ({ cls := "GingerRents$Bake", name := "comes", desc := "(LGingerRents$Borough;)V" } : Jvm.MethodName) prog_3_method_2_code (2 : Nat) (Option.none : Option Jvm.ClassFile.FieldType)) ∈ lw_all := lw_g (lw_at lw_m5 22 rfl) rfl
theorem q1133 : (Jvm.Cond.methodLink "GingerRents$Bake" (22 : Nat) ({ cls := "GingerRents$Bake", name := "one", desc := "()I" } : Jvm.MethodName)) ∈ lw_all := lw_g (lw_at lw_m5 23 rfl) rfl
theorem q1134 : (Jvm.Cond.sameMethod "GingerRents$Bake" "GingerRents$Entry" "one" "()I") ∈ lw_all := lw_g (lw_at lw_m5 24 rfl) rfl
theorem q1136 : (Jvm.Cond.selects "GingerRents$Bake" ({ cls := "GingerRents$Bake", name := "one", desc := "()I" } : Jvm.MethodName) ({ cls := "GingerRents$Entry", name := "one", desc := "()I" } : Jvm.MethodName)) ∈ lw_all := lw_g (lw_at lw_m5 26 rfl) rfl
theorem q1139 : (Jvm.Cond.methodLink "GingerRents$Bake" (26 : Nat) ({ cls := "GingerRents$House", name := "bakes", desc := "(II)V" } : Jvm.MethodName)) ∈ lw_all := lw_g (lw_at lw_m5 29 rfl) rfl
theorem q2252 : (Jvm.Cond.castable "GingerRents$Bake" "GingerRents$Entry") ∈ lw_tbl := lw_at lw_m9 182 rfl
theorem q2274 : (Jvm.Cond.castable "GingerRents$Bake" "java/lang/Object") ∈ lw_tbl := lw_at lw_m9 204 rfl
theorem in_X17 : ∀ w ∈ wsX170, w ∈ lw_all := lw_in wsX170 [951, 952, 947, 949] (by decide +kernel) (by decide +kernel)

/-! GingerRents$Wedding -/
set_option maxRecDepth 100000
def RX18 : String := "GingerRents$Wedding"
def TX18 : u_T := fun k => match k with
  | 0 => ("GingerRents$Entry", "quarter", "I", true)
  | _ => ("GingerRents$Entry", "one", "I", true)
def tyX18 : Nat → FieldType := fun k => match k with
  | 0 => .int
  | _ => .int
abbrev wsX180 : List Cond := u_ws RX18 TX18 2
theorem nmX18 : ∀ a, a < 2 → ∀ b, b < 2 → a ≠ b → (TX18 a).2.1 ≠ (TX18 b).2.1 := by decide +kernel
theorem tyX18_ok : ∀ k, k < 2 → parseFieldDescriptor (TX18 k).2.2.1 = some (tyX18 k) := by decide +kernel
abbrev cX18_init : ByteArray := prog_20_method_1_code
def yX18_init : MethodName := ⟨RX18, "<init>", "(II)V"⟩
def dkwX18_init_0 : List UInt8 := [42, 27, 28, 183, 0, 1, 177]
abbrev dktX18_init_0 : List UInt8 := dkwX18_init_0 ++ []
theorem dksX18_init_0 : cX18_init.data.toList.drop 0 = dktX18_init_0 := by decide +kernel
theorem dX18_init_0 : decode cX18_init 0 = .ok (.aload_n 0, 1) := dk_42 (dk_at dksX18_init_0 0 rfl rfl)
theorem dX18_init_1 : decode cX18_init 1 = .ok (.iload_n 1, 1) := dk_27 (dk_at dksX18_init_0 1 rfl rfl)
theorem dX18_init_2 : decode cX18_init 2 = .ok (.iload_n 2, 1) := dk_28 (dk_at dksX18_init_0 2 rfl rfl)
theorem dX18_init_3 : decode cX18_init 3 = .ok (.invokespecial 1, 3) := dk_183 0 1 (dk_at dksX18_init_0 3 rfl rfl)
theorem dX18_init_6 : decode cX18_init 6 = .ok (.return_, 1) := dk_177 (dk_at dksX18_init_0 6 rfl rfl)
abbrev cX18_comes : ByteArray := prog_20_method_2_code
def yX18_comes : MethodName := ⟨RX18, "comes", "(LGingerRents$Borough;)V"⟩
def dkwX18_comes_0 : List UInt8 := [43, 42, 182, 0, 7, 182, 0, 13, 153, 0, 11, 43, 42, 182, 0, 7, 182, 0, 19, 177]
abbrev dktX18_comes_0 : List UInt8 := dkwX18_comes_0 ++ []
theorem dksX18_comes_0 : cX18_comes.data.toList.drop 0 = dktX18_comes_0 := by decide +kernel
theorem dX18_comes_0 : decode cX18_comes 0 = .ok (.aload_n 1, 1) := dk_43 (dk_at dksX18_comes_0 0 rfl rfl)
theorem dX18_comes_1 : decode cX18_comes 1 = .ok (.aload_n 0, 1) := dk_42 (dk_at dksX18_comes_0 1 rfl rfl)
theorem dX18_comes_2 : decode cX18_comes 2 = .ok (.invokevirtual 7, 3) := dk_182 0 7 (dk_at dksX18_comes_0 2 rfl rfl)
theorem dX18_comes_5 : decode cX18_comes 5 = .ok (.invokevirtual 13, 3) := dk_182 0 13 (dk_at dksX18_comes_0 5 rfl rfl)
theorem dX18_comes_8 : decode cX18_comes 8 = .ok (.ifCond .eq 11, 3) := dk_153 0 11 (dk_at dksX18_comes_0 8 rfl rfl)
theorem dX18_comes_11 : decode cX18_comes 11 = .ok (.aload_n 1, 1) := dk_43 (dk_at dksX18_comes_0 11 rfl rfl)
theorem dX18_comes_12 : decode cX18_comes 12 = .ok (.aload_n 0, 1) := dk_42 (dk_at dksX18_comes_0 12 rfl rfl)
theorem dX18_comes_13 : decode cX18_comes 13 = .ok (.invokevirtual 7, 3) := dk_182 0 7 (dk_at dksX18_comes_0 13 rfl rfl)
theorem dX18_comes_16 : decode cX18_comes 16 = .ok (.invokevirtual 19, 3) := dk_182 0 19 (dk_at dksX18_comes_0 16 rfl rfl)
theorem dX18_comes_19 : decode cX18_comes 19 = .ok (.return_, 1) := dk_177 (dk_at dksX18_comes_0 19 rfl rfl)
theorem q184 : (Jvm.Cond.initialized "GingerRents$Wedding") ∈ lw_all := lw_g (lw_at lw_m1 34 rfl) rfl
theorem q867 : (Jvm.Cond.selects "GingerRents$Wedding" ({ cls := "java/lang/Object", name := "getClass", desc := "()Ljava/lang/Class;" } : Jvm.MethodName) ({ cls := "java/lang/Object", name := "getClass", desc := "()Ljava/lang/Class;" } : Jvm.MethodName)) ∈ lw_all := lw_g (lw_at lw_m3 237 rfl) rfl
theorem q955 : (Jvm.Cond.instantiable "GingerRents$Wedding" (2 : Nat)) ∈ lw_all := lw_g (lw_at lw_m4 85 rfl) rfl
theorem q957 : (Jvm.Cond.instanceMethod ({ cls := "GingerRents$Wedding", name := "<init>", desc := "(II)V" } : Jvm.MethodName)) ∈ lw_all := lw_g (lw_at lw_m4 87 rfl) rfl
theorem q958 : (Jvm.Cond.code ({ cls := "GingerRents$Wedding", name := "<init>", desc := "(II)V" } : Jvm.MethodName) prog_20_method_1_code (3 : Nat) (Option.none : Option Jvm.ClassFile.FieldType)) ∈ lw_all := lw_g (lw_at lw_m4 88 rfl) rfl
theorem q959 : (Jvm.Cond.methodLink "GingerRents$Wedding" (1 : Nat) ({ cls := "GingerRents$Entry", name := "<init>", desc := "(II)V" } : Jvm.MethodName)) ∈ lw_all := lw_g (lw_at lw_m4 89 rfl) rfl
theorem q960 : (Jvm.Cond.laysFinal "GingerRents$Wedding" "GingerRents$Entry" "quarter" "I") ∈ lw_all := lw_g (lw_at lw_m4 90 rfl) rfl
theorem q961 : (Jvm.Cond.laysFinal "GingerRents$Wedding" "GingerRents$Entry" "one" "I") ∈ lw_all := lw_g (lw_at lw_m4 91 rfl) rfl
theorem q962 : (Jvm.Cond.superclass "GingerRents$Wedding" "GingerRents$Entry") ∈ lw_all := lw_g (lw_at lw_m4 92 rfl) rfl
theorem q1125 : (Jvm.Cond.selects "GingerRents$Wedding" ({ cls := "GingerRents$Entry", name := "isOf", desc := "(I)Z" } : Jvm.MethodName) ({ cls := "GingerRents$Entry", name := "isOf", desc := "(I)Z" } : Jvm.MethodName)) ∈ lw_all := lw_g (lw_at lw_m5 15 rfl) rfl
theorem q1167 : (Jvm.Cond.selects "GingerRents$Wedding" ({ cls := "GingerRents$Entry", name := "comes", desc := "(LGingerRents$Borough;)V" } : Jvm.MethodName) ({ cls := "GingerRents$Wedding", name := "comes", desc := "(LGingerRents$Borough;)V" } : Jvm.MethodName)) ∈ lw_all := lw_g (lw_at lw_m5 57 rfl) rfl
theorem q1168 : (Jvm.Cond.instanceMethod ({ cls := "GingerRents$Wedding", name := "comes", desc := "(LGingerRents$Borough;)V" } : Jvm.MethodName)) ∈ lw_all := lw_g (lw_at lw_m5 58 rfl) rfl
theorem q1169 : (Jvm.Cond.code ({ cls := "GingerRents$Wedding", name := "comes", desc := "(LGingerRents$Borough;)V" } : Jvm.MethodName) prog_20_method_2_code (2 : Nat) (Option.none : Option Jvm.ClassFile.FieldType)) ∈ lw_all := lw_g (lw_at lw_m5 59 rfl) rfl
theorem q1170 : (Jvm.Cond.methodLink "GingerRents$Wedding" (7 : Nat) ({ cls := "GingerRents$Wedding", name := "one", desc := "()I" } : Jvm.MethodName)) ∈ lw_all := lw_g (lw_at lw_m5 60 rfl) rfl
theorem q1171 : (Jvm.Cond.sameMethod "GingerRents$Wedding" "GingerRents$Entry" "one" "()I") ∈ lw_all := lw_g (lw_at lw_m5 61 rfl) rfl
theorem q1172 : (Jvm.Cond.selects "GingerRents$Wedding" ({ cls := "GingerRents$Wedding", name := "one", desc := "()I" } : Jvm.MethodName) ({ cls := "GingerRents$Entry", name := "one", desc := "()I" } : Jvm.MethodName)) ∈ lw_all := lw_g (lw_at lw_m5 62 rfl) rfl
theorem q1173 : (Jvm.Cond.methodLink "GingerRents$Wedding" (13 : Nat) ({ cls := "GingerRents$Borough", name := "canWed", desc := "(I)Z" } : Jvm.MethodName)) ∈ lw_all := lw_g (lw_at lw_m5 63 rfl) rfl
theorem q1174 : (Jvm.Cond.methodLink "GingerRents$Wedding" (19 : Nat) ({ cls := "GingerRents$Borough", name := "weds", desc := "(I)V" } : Jvm.MethodName)) ∈ lw_all := lw_g (lw_at lw_m5 64 rfl) rfl
theorem q2257 : (Jvm.Cond.castable "GingerRents$Wedding" "GingerRents$Entry") ∈ lw_tbl := lw_at lw_m9 187 rfl
theorem q2275 : (Jvm.Cond.castable "GingerRents$Wedding" "java/lang/Object") ∈ lw_tbl := lw_at lw_m9 205 rfl
theorem in_X18 : ∀ w ∈ wsX180, w ∈ lw_all := lw_in wsX180 [960, 961] (by decide +kernel) (by decide +kernel)

/-! GingerRents$Razing -/
set_option maxRecDepth 100000
def RX19 : String := "GingerRents$Razing"
def TX19 : u_T := fun k => match k with
  | 0 => ("GingerRents$Entry", "quarter", "I", true)
  | _ => ("GingerRents$Entry", "one", "I", true)
def tyX19 : Nat → FieldType := fun k => match k with
  | 0 => .int
  | _ => .int
abbrev wsX190 : List Cond := u_ws RX19 TX19 2
theorem nmX19 : ∀ a, a < 2 → ∀ b, b < 2 → a ≠ b → (TX19 a).2.1 ≠ (TX19 b).2.1 := by decide +kernel
theorem tyX19_ok : ∀ k, k < 2 → parseFieldDescriptor (TX19 k).2.2.1 = some (tyX19 k) := by decide +kernel
abbrev cX19_init : ByteArray := prog_16_method_1_code
def yX19_init : MethodName := ⟨RX19, "<init>", "(II)V"⟩
def dkwX19_init_0 : List UInt8 := [42, 27, 28, 183, 0, 1, 177]
abbrev dktX19_init_0 : List UInt8 := dkwX19_init_0 ++ []
theorem dksX19_init_0 : cX19_init.data.toList.drop 0 = dktX19_init_0 := by decide +kernel
theorem dX19_init_0 : decode cX19_init 0 = .ok (.aload_n 0, 1) := dk_42 (dk_at dksX19_init_0 0 rfl rfl)
theorem dX19_init_1 : decode cX19_init 1 = .ok (.iload_n 1, 1) := dk_27 (dk_at dksX19_init_0 1 rfl rfl)
theorem dX19_init_2 : decode cX19_init 2 = .ok (.iload_n 2, 1) := dk_28 (dk_at dksX19_init_0 2 rfl rfl)
theorem dX19_init_3 : decode cX19_init 3 = .ok (.invokespecial 1, 3) := dk_183 0 1 (dk_at dksX19_init_0 3 rfl rfl)
theorem dX19_init_6 : decode cX19_init 6 = .ok (.return_, 1) := dk_177 (dk_at dksX19_init_0 6 rfl rfl)
abbrev cX19_comes : ByteArray := prog_16_method_2_code
def yX19_comes : MethodName := ⟨RX19, "comes", "(LGingerRents$Borough;)V"⟩
def dkwX19_comes_0 : List UInt8 := [43, 180, 0, 7, 42, 182, 0, 13, 50, 182, 0, 19, 153, 0, 11, 43, 42, 182, 0, 13, 182, 0, 25, 177]
abbrev dktX19_comes_0 : List UInt8 := dkwX19_comes_0 ++ []
theorem dksX19_comes_0 : cX19_comes.data.toList.drop 0 = dktX19_comes_0 := by decide +kernel
theorem dX19_comes_0 : decode cX19_comes 0 = .ok (.aload_n 1, 1) := dk_43 (dk_at dksX19_comes_0 0 rfl rfl)
theorem dX19_comes_1 : decode cX19_comes 1 = .ok (.getfield 7, 3) := dk_180 0 7 (dk_at dksX19_comes_0 1 rfl rfl)
theorem dX19_comes_4 : decode cX19_comes 4 = .ok (.aload_n 0, 1) := dk_42 (dk_at dksX19_comes_0 4 rfl rfl)
theorem dX19_comes_5 : decode cX19_comes 5 = .ok (.invokevirtual 13, 3) := dk_182 0 13 (dk_at dksX19_comes_0 5 rfl rfl)
theorem dX19_comes_8 : decode cX19_comes 8 = .ok (.aaload, 1) := dk_50 (dk_at dksX19_comes_0 8 rfl rfl)
theorem dX19_comes_9 : decode cX19_comes 9 = .ok (.invokevirtual 19, 3) := dk_182 0 19 (dk_at dksX19_comes_0 9 rfl rfl)
theorem dX19_comes_12 : decode cX19_comes 12 = .ok (.ifCond .eq 11, 3) := dk_153 0 11 (dk_at dksX19_comes_0 12 rfl rfl)
theorem dX19_comes_15 : decode cX19_comes 15 = .ok (.aload_n 1, 1) := dk_43 (dk_at dksX19_comes_0 15 rfl rfl)
theorem dX19_comes_16 : decode cX19_comes 16 = .ok (.aload_n 0, 1) := dk_42 (dk_at dksX19_comes_0 16 rfl rfl)
theorem dX19_comes_17 : decode cX19_comes 17 = .ok (.invokevirtual 13, 3) := dk_182 0 13 (dk_at dksX19_comes_0 17 rfl rfl)
theorem dX19_comes_20 : decode cX19_comes 20 = .ok (.invokevirtual 25, 3) := dk_182 0 25 (dk_at dksX19_comes_0 20 rfl rfl)
theorem dX19_comes_23 : decode cX19_comes 23 = .ok (.return_, 1) := dk_177 (dk_at dksX19_comes_0 23 rfl rfl)
theorem q185 : (Jvm.Cond.initialized "GingerRents$Razing") ∈ lw_all := lw_g (lw_at lw_m1 35 rfl) rfl
theorem q297 : (Jvm.Cond.fieldLinkNest "GingerRents$Razing" (7 : Nat) "GingerRents$Borough" "house" "[LGingerRents$House;" "GingerRents") ∈ lw_tbl := lw_at lw_m1 147 rfl
theorem q864 : (Jvm.Cond.selects "GingerRents$Razing" ({ cls := "java/lang/Object", name := "getClass", desc := "()Ljava/lang/Class;" } : Jvm.MethodName) ({ cls := "java/lang/Object", name := "getClass", desc := "()Ljava/lang/Class;" } : Jvm.MethodName)) ∈ lw_all := lw_g (lw_at lw_m3 234 rfl) rfl
theorem q964 : (Jvm.Cond.instantiable "GingerRents$Razing" (2 : Nat)) ∈ lw_all := lw_g (lw_at lw_m4 94 rfl) rfl
theorem q966 : (Jvm.Cond.instanceMethod ({ cls := "GingerRents$Razing", name := "<init>", desc := "(II)V" } : Jvm.MethodName)) ∈ lw_all := lw_g (lw_at lw_m4 96 rfl) rfl
theorem q967 : (Jvm.Cond.code ({ cls := "GingerRents$Razing", name := "<init>", desc := "(II)V" } : Jvm.MethodName) prog_16_method_1_code (3 : Nat) (Option.none : Option Jvm.ClassFile.FieldType)) ∈ lw_all := lw_g (lw_at lw_m4 97 rfl) rfl
theorem q968 : (Jvm.Cond.methodLink "GingerRents$Razing" (1 : Nat) ({ cls := "GingerRents$Entry", name := "<init>", desc := "(II)V" } : Jvm.MethodName)) ∈ lw_all := lw_g (lw_at lw_m4 98 rfl) rfl
theorem q969 : (Jvm.Cond.laysFinal "GingerRents$Razing" "GingerRents$Entry" "quarter" "I") ∈ lw_all := lw_g (lw_at lw_m4 99 rfl) rfl
theorem q970 : (Jvm.Cond.laysFinal "GingerRents$Razing" "GingerRents$Entry" "one" "I") ∈ lw_all := lw_g (lw_at lw_m4 100 rfl) rfl
theorem q971 : (Jvm.Cond.superclass "GingerRents$Razing" "GingerRents$Entry") ∈ lw_all := lw_g (lw_at lw_m4 101 rfl) rfl
theorem q1124 : (Jvm.Cond.selects "GingerRents$Razing" ({ cls := "GingerRents$Entry", name := "isOf", desc := "(I)Z" } : Jvm.MethodName) ({ cls := "GingerRents$Entry", name := "isOf", desc := "(I)Z" } : Jvm.MethodName)) ∈ lw_all := lw_g (lw_at lw_m5 14 rfl) rfl
theorem q1159 : (Jvm.Cond.selects "GingerRents$Razing" ({ cls := "GingerRents$Entry", name := "comes", desc := "(LGingerRents$Borough;)V" } : Jvm.MethodName) ({ cls := "GingerRents$Razing", name := "comes", desc := "(LGingerRents$Borough;)V" } : Jvm.MethodName)) ∈ lw_all := lw_g (lw_at lw_m5 49 rfl) rfl
theorem q1160 : (Jvm.Cond.instanceMethod ({ cls := "GingerRents$Razing", name := "comes", desc := "(LGingerRents$Borough;)V" } : Jvm.MethodName)) ∈ lw_all := lw_g (lw_at lw_m5 50 rfl) rfl
theorem q1161 : (Jvm.Cond.code ({ cls := "GingerRents$Razing", name := "comes", desc := "(LGingerRents$Borough;)V" } : Jvm.MethodName) prog_16_method_2_code (2 : Nat) (Option.none : Option Jvm.ClassFile.FieldType)) ∈ lw_all := lw_g (lw_at lw_m5 51 rfl) rfl
theorem q1162 : (Jvm.Cond.methodLink "GingerRents$Razing" (13 : Nat) ({ cls := "GingerRents$Razing", name := "one", desc := "()I" } : Jvm.MethodName)) ∈ lw_all := lw_g (lw_at lw_m5 52 rfl) rfl
theorem q1163 : (Jvm.Cond.sameMethod "GingerRents$Razing" "GingerRents$Entry" "one" "()I") ∈ lw_all := lw_g (lw_at lw_m5 53 rfl) rfl
theorem q1164 : (Jvm.Cond.selects "GingerRents$Razing" ({ cls := "GingerRents$Razing", name := "one", desc := "()I" } : Jvm.MethodName) ({ cls := "GingerRents$Entry", name := "one", desc := "()I" } : Jvm.MethodName)) ∈ lw_all := lw_g (lw_at lw_m5 54 rfl) rfl
theorem q1165 : (Jvm.Cond.methodLink "GingerRents$Razing" (19 : Nat) ({ cls := "GingerRents$House", name := "stands", desc := "()Z" } : Jvm.MethodName)) ∈ lw_all := lw_g (lw_at lw_m5 55 rfl) rfl
theorem q1166 : (Jvm.Cond.methodLink "GingerRents$Razing" (25 : Nat) ({ cls := "GingerRents$Borough", name := "razes", desc := "(I)V" } : Jvm.MethodName)) ∈ lw_all := lw_g (lw_at lw_m5 56 rfl) rfl
theorem q2256 : (Jvm.Cond.castable "GingerRents$Razing" "GingerRents$Entry") ∈ lw_tbl := lw_at lw_m9 186 rfl
theorem q2276 : (Jvm.Cond.castable "GingerRents$Razing" "java/lang/Object") ∈ lw_tbl := lw_at lw_m9 206 rfl
theorem in_X19 : ∀ w ∈ wsX190, w ∈ lw_all := lw_in wsX190 [969, 970] (by decide +kernel) (by decide +kernel)

/-! GingerRents$Reader -/
set_option maxRecDepth 100000
def RX5 : String := "GingerRents$Reader"
def TX5 : u_T := fun k => match k with
  | 0 => ("GingerRents$Reader", "which", "I", true)
  | 1 => ("GingerRents$Reader", "nextTo", "[I", true)
  | 2 => ("GingerRents$Reader", "at", "I", false)
  | 3 => ("GingerRents$Reader", "start", "I", false)
  | 4 => ("GingerRents$Reader", "token", "I", false)
  | 5 => ("GingerRents$Reader", "value", "I", false)
  | 6 => ("GingerRents$Reader", "open", "I", false)
  | 7 => ("GingerRents$Reader", "told", "I", false)
  | _ => ("GingerRents$Reader", "this$0", "LGingerRents;", true)
def tyX5 : Nat → FieldType := fun k => match k with
  | 0 => .int
  | 1 => .array .int
  | 2 => .int
  | 3 => .int
  | 4 => .int
  | 5 => .int
  | 6 => .int
  | 7 => .int
  | _ => .object "GingerRents"
abbrev wsX50 : List Cond := u_ws RX5 TX5 9
theorem nmX5 : ∀ a, a < 9 → ∀ b, b < 9 → a ≠ b → (TX5 a).2.1 ≠ (TX5 b).2.1 := by decide +kernel
theorem tyX5_ok : ∀ k, k < 9 → parseFieldDescriptor (TX5 k).2.2.1 = some (tyX5 k) := by decide +kernel
abbrev cX5_init : ByteArray := prog_17_method_1_code
def yX5_init : MethodName := ⟨RX5, "<init>", "(LGingerRents;I)V"⟩
def dkwX5_init_0 : List UInt8 := [42, 43, 181, 0, 3, 42, 183, 0, 9, 42, 16, 12, 188, 10, 181, 0, 15, 42, 28, 181, 0, 19, 177]
abbrev dktX5_init_0 : List UInt8 := dkwX5_init_0 ++ []
theorem dksX5_init_0 : cX5_init.data.toList.drop 0 = dktX5_init_0 := by decide +kernel
theorem dX5_init_0 : decode cX5_init 0 = .ok (.aload_n 0, 1) := dk_42 (dk_at dksX5_init_0 0 rfl rfl)
theorem dX5_init_1 : decode cX5_init 1 = .ok (.aload_n 1, 1) := dk_43 (dk_at dksX5_init_0 1 rfl rfl)
theorem dX5_init_2 : decode cX5_init 2 = .ok (.putfield 3, 3) := dk_181 0 3 (dk_at dksX5_init_0 2 rfl rfl)
theorem dX5_init_5 : decode cX5_init 5 = .ok (.aload_n 0, 1) := dk_42 (dk_at dksX5_init_0 5 rfl rfl)
theorem dX5_init_6 : decode cX5_init 6 = .ok (.invokespecial 9, 3) := dk_183 0 9 (dk_at dksX5_init_0 6 rfl rfl)
theorem dX5_init_9 : decode cX5_init 9 = .ok (.aload_n 0, 1) := dk_42 (dk_at dksX5_init_0 9 rfl rfl)
theorem dX5_init_10 : decode cX5_init 10 = .ok (.bipush 12, 2) := dk_16 12 (dk_at dksX5_init_0 10 rfl rfl)
theorem dX5_init_12 : decode cX5_init 12 = .ok (.newarray .int, 2) := dk_188_10 (dk_at dksX5_init_0 12 rfl rfl)
theorem dX5_init_14 : decode cX5_init 14 = .ok (.putfield 15, 3) := dk_181 0 15 (dk_at dksX5_init_0 14 rfl rfl)
theorem dX5_init_17 : decode cX5_init 17 = .ok (.aload_n 0, 1) := dk_42 (dk_at dksX5_init_0 17 rfl rfl)
theorem dX5_init_18 : decode cX5_init 18 = .ok (.iload_n 2, 1) := dk_28 (dk_at dksX5_init_0 18 rfl rfl)
theorem dX5_init_19 : decode cX5_init 19 = .ok (.putfield 19, 3) := dk_181 0 19 (dk_at dksX5_init_0 19 rfl rfl)
theorem dX5_init_22 : decode cX5_init 22 = .ok (.return_, 1) := dk_177 (dk_at dksX5_init_0 22 rfl rfl)
abbrev cX5_law : ByteArray := prog_17_method_22_code
def yX5_law : MethodName := ⟨RX5, "law", "()Ljava/util/ArrayList;"⟩
def dkwX5_law_5 : List UInt8 := [187, 0, 211, 89, 28, 45, 25, 4, 183, 0, 213, 182, 0, 216, 87, 167, 255, 138, 43, 176]
abbrev dktX5_law_5 : List UInt8 := dkwX5_law_5 ++ []
def dkwX5_law_4 : List UInt8 := [180, 0, 120, 6, 160, 0, 13, 42, 182, 0, 131, 42, 182, 0, 197, 58, 4, 42, 16, 59, 182, 0, 200, 43]
abbrev dktX5_law_4 : List UInt8 := dkwX5_law_4 ++ dktX5_law_5
def dkwX5_law_3 : List UInt8 := [180, 0, 120, 61, 42, 3, 181, 0, 160, 42, 182, 0, 131, 42, 182, 0, 203, 78, 1, 58, 4, 42]
abbrev dktX5_law_3 : List UInt8 := dkwX5_law_3 ++ dktX5_law_4
def dkwX5_law_2 : List UInt8 := [182, 0, 208, 16, 16, 160, 0, 16, 187, 0, 123, 89, 6, 42, 180, 0, 41, 183, 0, 125, 191, 42]
abbrev dktX5_law_2 : List UInt8 := dkwX5_law_2 ++ dktX5_law_3
def dkwX5_law_1 : List UInt8 := [16, 7, 16, 9, 184, 0, 37, 154, 0, 16, 187, 0, 123, 89, 4, 42, 180, 0, 41, 183, 0, 125, 191, 43]
abbrev dktX5_law_1 : List UInt8 := dkwX5_law_1 ++ dktX5_law_2
def dkwX5_law_0 : List UInt8 := [187, 0, 205, 89, 183, 0, 207, 76, 42, 182, 0, 131, 42, 180, 0, 120, 153, 0, 117, 42, 180, 0, 120]
abbrev dktX5_law_0 : List UInt8 := dkwX5_law_0 ++ dktX5_law_1
theorem dksX5_law_0 : cX5_law.data.toList.drop 0 = dktX5_law_0 := by decide +kernel
theorem dksX5_law_1 : cX5_law.data.toList.drop 23 = dktX5_law_1 := dk_seg dksX5_law_0 23 rfl rfl
theorem dksX5_law_2 : cX5_law.data.toList.drop 47 = dktX5_law_2 := dk_seg dksX5_law_1 24 rfl rfl
theorem dksX5_law_3 : cX5_law.data.toList.drop 69 = dktX5_law_3 := dk_seg dksX5_law_2 22 rfl rfl
theorem dksX5_law_4 : cX5_law.data.toList.drop 91 = dktX5_law_4 := dk_seg dksX5_law_3 22 rfl rfl
theorem dksX5_law_5 : cX5_law.data.toList.drop 115 = dktX5_law_5 := dk_seg dksX5_law_4 24 rfl rfl
theorem dX5_law_0 : decode cX5_law 0 = .ok (.new 205, 3) := dk_187 0 205 (dk_at dksX5_law_0 0 rfl rfl)
theorem dX5_law_3 : decode cX5_law 3 = .ok (.dup, 1) := dk_89 (dk_at dksX5_law_0 3 rfl rfl)
theorem dX5_law_4 : decode cX5_law 4 = .ok (.invokespecial 207, 3) := dk_183 0 207 (dk_at dksX5_law_0 4 rfl rfl)
theorem dX5_law_7 : decode cX5_law 7 = .ok (.astore_n 1, 1) := dk_76 (dk_at dksX5_law_0 7 rfl rfl)
theorem dX5_law_8 : decode cX5_law 8 = .ok (.aload_n 0, 1) := dk_42 (dk_at dksX5_law_0 8 rfl rfl)
theorem dX5_law_9 : decode cX5_law 9 = .ok (.invokevirtual 131, 3) := dk_182 0 131 (dk_at dksX5_law_0 9 rfl rfl)
theorem dX5_law_12 : decode cX5_law 12 = .ok (.aload_n 0, 1) := dk_42 (dk_at dksX5_law_0 12 rfl rfl)
theorem dX5_law_13 : decode cX5_law 13 = .ok (.getfield 120, 3) := dk_180 0 120 (dk_at dksX5_law_0 13 rfl rfl)
theorem dX5_law_16 : decode cX5_law 16 = .ok (.ifCond .eq 117, 3) := dk_153 0 117 (dk_at dksX5_law_0 16 rfl rfl)
theorem dX5_law_19 : decode cX5_law 19 = .ok (.aload_n 0, 1) := dk_42 (dk_at dksX5_law_0 19 rfl rfl)
theorem dX5_law_20 : decode cX5_law 20 = .ok (.getfield 120, 3) := dk_180 0 120 (dk_at dksX5_law_0 20 rfl rfl)
theorem dX5_law_23 : decode cX5_law 23 = .ok (.bipush 7, 2) := dk_16 7 (dk_at dksX5_law_1 0 rfl rfl)
theorem dX5_law_25 : decode cX5_law 25 = .ok (.bipush 9, 2) := dk_16 9 (dk_at dksX5_law_1 2 rfl rfl)
theorem dX5_law_27 : decode cX5_law 27 = .ok (.invokestatic 37, 3) := dk_184 0 37 (dk_at dksX5_law_1 4 rfl rfl)
theorem dX5_law_30 : decode cX5_law 30 = .ok (.ifCond .ne 16, 3) := dk_154 0 16 (dk_at dksX5_law_1 7 rfl rfl)
theorem dX5_law_33 : decode cX5_law 33 = .ok (.new 123, 3) := dk_187 0 123 (dk_at dksX5_law_1 10 rfl rfl)
theorem dX5_law_36 : decode cX5_law 36 = .ok (.dup, 1) := dk_89 (dk_at dksX5_law_1 13 rfl rfl)
theorem dX5_law_37 : decode cX5_law 37 = .ok (.iconst 1, 1) := dk_4 (dk_at dksX5_law_1 14 rfl rfl)
theorem dX5_law_38 : decode cX5_law 38 = .ok (.aload_n 0, 1) := dk_42 (dk_at dksX5_law_1 15 rfl rfl)
theorem dX5_law_39 : decode cX5_law 39 = .ok (.getfield 41, 3) := dk_180 0 41 (dk_at dksX5_law_1 16 rfl rfl)
theorem dX5_law_42 : decode cX5_law 42 = .ok (.invokespecial 125, 3) := dk_183 0 125 (dk_at dksX5_law_1 19 rfl rfl)
theorem dX5_law_45 : decode cX5_law 45 = .ok (.athrow, 1) := dk_191 (dk_at dksX5_law_1 22 rfl rfl)
theorem dX5_law_46 : decode cX5_law 46 = .ok (.aload_n 1, 1) := dk_43 (dk_at dksX5_law_1 23 rfl rfl)
theorem dX5_law_47 : decode cX5_law 47 = .ok (.invokevirtual 208, 3) := dk_182 0 208 (dk_at dksX5_law_2 0 rfl rfl)
theorem dX5_law_50 : decode cX5_law 50 = .ok (.bipush 16, 2) := dk_16 16 (dk_at dksX5_law_2 3 rfl rfl)
theorem dX5_law_52 : decode cX5_law 52 = .ok (.if_icmp .ne 16, 3) := dk_160 0 16 (dk_at dksX5_law_2 5 rfl rfl)
theorem dX5_law_55 : decode cX5_law 55 = .ok (.new 123, 3) := dk_187 0 123 (dk_at dksX5_law_2 8 rfl rfl)
theorem dX5_law_58 : decode cX5_law 58 = .ok (.dup, 1) := dk_89 (dk_at dksX5_law_2 11 rfl rfl)
theorem dX5_law_59 : decode cX5_law 59 = .ok (.iconst 3, 1) := dk_6 (dk_at dksX5_law_2 12 rfl rfl)
theorem dX5_law_60 : decode cX5_law 60 = .ok (.aload_n 0, 1) := dk_42 (dk_at dksX5_law_2 13 rfl rfl)
theorem dX5_law_61 : decode cX5_law 61 = .ok (.getfield 41, 3) := dk_180 0 41 (dk_at dksX5_law_2 14 rfl rfl)
theorem dX5_law_64 : decode cX5_law 64 = .ok (.invokespecial 125, 3) := dk_183 0 125 (dk_at dksX5_law_2 17 rfl rfl)
theorem dX5_law_67 : decode cX5_law 67 = .ok (.athrow, 1) := dk_191 (dk_at dksX5_law_2 20 rfl rfl)
theorem dX5_law_68 : decode cX5_law 68 = .ok (.aload_n 0, 1) := dk_42 (dk_at dksX5_law_2 21 rfl rfl)
theorem dX5_law_69 : decode cX5_law 69 = .ok (.getfield 120, 3) := dk_180 0 120 (dk_at dksX5_law_3 0 rfl rfl)
theorem dX5_law_72 : decode cX5_law 72 = .ok (.istore_n 2, 1) := dk_61 (dk_at dksX5_law_3 3 rfl rfl)
theorem dX5_law_73 : decode cX5_law 73 = .ok (.aload_n 0, 1) := dk_42 (dk_at dksX5_law_3 4 rfl rfl)
theorem dX5_law_74 : decode cX5_law 74 = .ok (.iconst 0, 1) := dk_3 (dk_at dksX5_law_3 5 rfl rfl)
theorem dX5_law_75 : decode cX5_law 75 = .ok (.putfield 160, 3) := dk_181 0 160 (dk_at dksX5_law_3 6 rfl rfl)
theorem dX5_law_78 : decode cX5_law 78 = .ok (.aload_n 0, 1) := dk_42 (dk_at dksX5_law_3 9 rfl rfl)
theorem dX5_law_79 : decode cX5_law 79 = .ok (.invokevirtual 131, 3) := dk_182 0 131 (dk_at dksX5_law_3 10 rfl rfl)
theorem dX5_law_82 : decode cX5_law 82 = .ok (.aload_n 0, 1) := dk_42 (dk_at dksX5_law_3 13 rfl rfl)
theorem dX5_law_83 : decode cX5_law 83 = .ok (.invokevirtual 203, 3) := dk_182 0 203 (dk_at dksX5_law_3 14 rfl rfl)
theorem dX5_law_86 : decode cX5_law 86 = .ok (.astore_n 3, 1) := dk_78 (dk_at dksX5_law_3 17 rfl rfl)
theorem dX5_law_87 : decode cX5_law 87 = .ok (.aconst_null, 1) := dk_1 (dk_at dksX5_law_3 18 rfl rfl)
theorem dX5_law_88 : decode cX5_law 88 = .ok (.astore 4, 2) := dk_58 4 (dk_at dksX5_law_3 19 rfl rfl)
theorem dX5_law_90 : decode cX5_law 90 = .ok (.aload_n 0, 1) := dk_42 (dk_at dksX5_law_3 21 rfl rfl)
theorem dX5_law_91 : decode cX5_law 91 = .ok (.getfield 120, 3) := dk_180 0 120 (dk_at dksX5_law_4 0 rfl rfl)
theorem dX5_law_94 : decode cX5_law 94 = .ok (.iconst 3, 1) := dk_6 (dk_at dksX5_law_4 3 rfl rfl)
theorem dX5_law_95 : decode cX5_law 95 = .ok (.if_icmp .ne 13, 3) := dk_160 0 13 (dk_at dksX5_law_4 4 rfl rfl)
theorem dX5_law_98 : decode cX5_law 98 = .ok (.aload_n 0, 1) := dk_42 (dk_at dksX5_law_4 7 rfl rfl)
theorem dX5_law_99 : decode cX5_law 99 = .ok (.invokevirtual 131, 3) := dk_182 0 131 (dk_at dksX5_law_4 8 rfl rfl)
theorem dX5_law_102 : decode cX5_law 102 = .ok (.aload_n 0, 1) := dk_42 (dk_at dksX5_law_4 11 rfl rfl)
theorem dX5_law_103 : decode cX5_law 103 = .ok (.invokevirtual 197, 3) := dk_182 0 197 (dk_at dksX5_law_4 12 rfl rfl)
theorem dX5_law_106 : decode cX5_law 106 = .ok (.astore 4, 2) := dk_58 4 (dk_at dksX5_law_4 15 rfl rfl)
theorem dX5_law_108 : decode cX5_law 108 = .ok (.aload_n 0, 1) := dk_42 (dk_at dksX5_law_4 17 rfl rfl)
theorem dX5_law_109 : decode cX5_law 109 = .ok (.bipush 59, 2) := dk_16 59 (dk_at dksX5_law_4 18 rfl rfl)
theorem dX5_law_111 : decode cX5_law 111 = .ok (.invokevirtual 200, 3) := dk_182 0 200 (dk_at dksX5_law_4 20 rfl rfl)
theorem dX5_law_114 : decode cX5_law 114 = .ok (.aload_n 1, 1) := dk_43 (dk_at dksX5_law_4 23 rfl rfl)
theorem dX5_law_115 : decode cX5_law 115 = .ok (.new 211, 3) := dk_187 0 211 (dk_at dksX5_law_5 0 rfl rfl)
theorem dX5_law_118 : decode cX5_law 118 = .ok (.dup, 1) := dk_89 (dk_at dksX5_law_5 3 rfl rfl)
theorem dX5_law_119 : decode cX5_law 119 = .ok (.iload_n 2, 1) := dk_28 (dk_at dksX5_law_5 4 rfl rfl)
theorem dX5_law_120 : decode cX5_law 120 = .ok (.aload_n 3, 1) := dk_45 (dk_at dksX5_law_5 5 rfl rfl)
theorem dX5_law_121 : decode cX5_law 121 = .ok (.aload 4, 2) := dk_25 4 (dk_at dksX5_law_5 6 rfl rfl)
theorem dX5_law_123 : decode cX5_law 123 = .ok (.invokespecial 213, 3) := dk_183 0 213 (dk_at dksX5_law_5 8 rfl rfl)
theorem dX5_law_126 : decode cX5_law 126 = .ok (.invokevirtual 216, 3) := dk_182 0 216 (dk_at dksX5_law_5 11 rfl rfl)
theorem dX5_law_129 : decode cX5_law 129 = .ok (.pop, 1) := dk_87 (dk_at dksX5_law_5 14 rfl rfl)
theorem dX5_law_130 : decode cX5_law 130 = .ok (.goto (-118), 3) := dk_167 255 138 (dk_at dksX5_law_5 15 rfl rfl)
theorem dX5_law_133 : decode cX5_law 133 = .ok (.aload_n 1, 1) := dk_43 (dk_at dksX5_law_5 18 rfl rfl)
theorem dX5_law_134 : decode cX5_law 134 = .ok (.areturn, 1) := dk_176 (dk_at dksX5_law_5 19 rfl rfl)
abbrev cX5_next : ByteArray := prog_17_method_13_code
def yX5_next : MethodName := ⟨RX5, "next", "()V"⟩
def dkwX5_next_9 : List UInt8 := [180, 0, 23, 4, 96, 181, 0, 23, 177]
abbrev dktX5_next_9 : List UInt8 := dkwX5_next_9 ++ []
def dkwX5_next_8 : List UInt8 := [182, 0, 33, 182, 0, 156, 153, 0, 10, 42, 182, 0, 33, 167, 0, 4, 4, 181, 0, 120, 42, 89]
abbrev dktX5_next_8 : List UInt8 := dkwX5_next_8 ++ dktX5_next_9
def dkwX5_next_7 : List UInt8 := [180, 0, 41, 100, 8, 162, 0, 7, 5, 167, 0, 4, 4, 181, 0, 120, 167, 0, 36, 42, 42, 42]
abbrev dktX5_next_7 : List UInt8 := dkwX5_next_7 ++ dktX5_next_8
def dkwX5_next_6 : List UInt8 := [181, 0, 128, 42, 89, 180, 0, 23, 4, 96, 181, 0, 23, 167, 255, 207, 42, 42, 180, 0, 23, 42]
abbrev dktX5_next_6 : List UInt8 := dkwX5_next_6 ++ dktX5_next_7
def dkwX5_next_5 : List UInt8 := [180, 0, 41, 7, 96, 162, 0, 22, 42, 16, 10, 42, 180, 0, 128, 104, 42, 182, 0, 33, 96, 16, 48, 100]
abbrev dktX5_next_5 : List UInt8 := dkwX5_next_5 ++ dktX5_next_6
def dkwX5_next_4 : List UInt8 := [182, 0, 153, 153, 0, 85, 42, 3, 181, 0, 128, 42, 182, 0, 153, 153, 0, 48, 42, 180, 0, 23, 42]
abbrev dktX5_next_4 : List UInt8 := dkwX5_next_4 ++ dktX5_next_5
def dkwX5_next_3 : List UInt8 := [180, 0, 23, 4, 96, 181, 0, 23, 167, 255, 239, 42, 42, 182, 0, 150, 181, 0, 120, 167, 0, 125, 42]
abbrev dktX5_next_3 : List UInt8 := dkwX5_next_3 ++ dktX5_next_4
def dkwX5_next_2 : List UInt8 := [3, 181, 0, 120, 167, 0, 163, 42, 182, 0, 146, 153, 0, 34, 42, 182, 0, 146, 153, 0, 16, 42, 89]
abbrev dktX5_next_2 : List UInt8 := dkwX5_next_2 ++ dktX5_next_3
def dkwX5_next_1 : List UInt8 := [96, 181, 0, 23, 167, 255, 228, 42, 42, 180, 0, 23, 181, 0, 41, 42, 182, 0, 33, 2, 160, 0, 11, 42]
abbrev dktX5_next_1 : List UInt8 := dkwX5_next_1 ++ dktX5_next_2
def dkwX5_next_0 : List UInt8 := [42, 182, 0, 33, 16, 32, 159, 0, 12, 42, 182, 0, 33, 16, 10, 160, 0, 16, 42, 89, 180, 0, 23, 4]
abbrev dktX5_next_0 : List UInt8 := dkwX5_next_0 ++ dktX5_next_1
theorem dksX5_next_0 : cX5_next.data.toList.drop 0 = dktX5_next_0 := by decide +kernel
theorem dksX5_next_1 : cX5_next.data.toList.drop 24 = dktX5_next_1 := dk_seg dksX5_next_0 24 rfl rfl
theorem dksX5_next_2 : cX5_next.data.toList.drop 48 = dktX5_next_2 := dk_seg dksX5_next_1 24 rfl rfl
theorem dksX5_next_3 : cX5_next.data.toList.drop 71 = dktX5_next_3 := dk_seg dksX5_next_2 23 rfl rfl
theorem dksX5_next_4 : cX5_next.data.toList.drop 94 = dktX5_next_4 := dk_seg dksX5_next_3 23 rfl rfl
theorem dksX5_next_5 : cX5_next.data.toList.drop 117 = dktX5_next_5 := dk_seg dksX5_next_4 23 rfl rfl
theorem dksX5_next_6 : cX5_next.data.toList.drop 141 = dktX5_next_6 := dk_seg dksX5_next_5 24 rfl rfl
theorem dksX5_next_7 : cX5_next.data.toList.drop 163 = dktX5_next_7 := dk_seg dksX5_next_6 22 rfl rfl
theorem dksX5_next_8 : cX5_next.data.toList.drop 185 = dktX5_next_8 := dk_seg dksX5_next_7 22 rfl rfl
theorem dksX5_next_9 : cX5_next.data.toList.drop 207 = dktX5_next_9 := dk_seg dksX5_next_8 22 rfl rfl
theorem dX5_next_0 : decode cX5_next 0 = .ok (.aload_n 0, 1) := dk_42 (dk_at dksX5_next_0 0 rfl rfl)
theorem dX5_next_1 : decode cX5_next 1 = .ok (.invokevirtual 33, 3) := dk_182 0 33 (dk_at dksX5_next_0 1 rfl rfl)
theorem dX5_next_4 : decode cX5_next 4 = .ok (.bipush 32, 2) := dk_16 32 (dk_at dksX5_next_0 4 rfl rfl)
theorem dX5_next_6 : decode cX5_next 6 = .ok (.if_icmp .eq 12, 3) := dk_159 0 12 (dk_at dksX5_next_0 6 rfl rfl)
theorem dX5_next_9 : decode cX5_next 9 = .ok (.aload_n 0, 1) := dk_42 (dk_at dksX5_next_0 9 rfl rfl)
theorem dX5_next_10 : decode cX5_next 10 = .ok (.invokevirtual 33, 3) := dk_182 0 33 (dk_at dksX5_next_0 10 rfl rfl)
theorem dX5_next_13 : decode cX5_next 13 = .ok (.bipush 10, 2) := dk_16 10 (dk_at dksX5_next_0 13 rfl rfl)
theorem dX5_next_15 : decode cX5_next 15 = .ok (.if_icmp .ne 16, 3) := dk_160 0 16 (dk_at dksX5_next_0 15 rfl rfl)
theorem dX5_next_18 : decode cX5_next 18 = .ok (.aload_n 0, 1) := dk_42 (dk_at dksX5_next_0 18 rfl rfl)
theorem dX5_next_19 : decode cX5_next 19 = .ok (.dup, 1) := dk_89 (dk_at dksX5_next_0 19 rfl rfl)
theorem dX5_next_20 : decode cX5_next 20 = .ok (.getfield 23, 3) := dk_180 0 23 (dk_at dksX5_next_0 20 rfl rfl)
theorem dX5_next_23 : decode cX5_next 23 = .ok (.iconst 1, 1) := dk_4 (dk_at dksX5_next_0 23 rfl rfl)
theorem dX5_next_24 : decode cX5_next 24 = .ok (.iadd, 1) := dk_96 (dk_at dksX5_next_1 0 rfl rfl)
theorem dX5_next_25 : decode cX5_next 25 = .ok (.putfield 23, 3) := dk_181 0 23 (dk_at dksX5_next_1 1 rfl rfl)
theorem dX5_next_28 : decode cX5_next 28 = .ok (.goto (-28), 3) := dk_167 255 228 (dk_at dksX5_next_1 4 rfl rfl)
theorem dX5_next_31 : decode cX5_next 31 = .ok (.aload_n 0, 1) := dk_42 (dk_at dksX5_next_1 7 rfl rfl)
theorem dX5_next_32 : decode cX5_next 32 = .ok (.aload_n 0, 1) := dk_42 (dk_at dksX5_next_1 8 rfl rfl)
theorem dX5_next_33 : decode cX5_next 33 = .ok (.getfield 23, 3) := dk_180 0 23 (dk_at dksX5_next_1 9 rfl rfl)
theorem dX5_next_36 : decode cX5_next 36 = .ok (.putfield 41, 3) := dk_181 0 41 (dk_at dksX5_next_1 12 rfl rfl)
theorem dX5_next_39 : decode cX5_next 39 = .ok (.aload_n 0, 1) := dk_42 (dk_at dksX5_next_1 15 rfl rfl)
theorem dX5_next_40 : decode cX5_next 40 = .ok (.invokevirtual 33, 3) := dk_182 0 33 (dk_at dksX5_next_1 16 rfl rfl)
theorem dX5_next_43 : decode cX5_next 43 = .ok (.iconst (-1), 1) := dk_2 (dk_at dksX5_next_1 19 rfl rfl)
theorem dX5_next_44 : decode cX5_next 44 = .ok (.if_icmp .ne 11, 3) := dk_160 0 11 (dk_at dksX5_next_1 20 rfl rfl)
theorem dX5_next_47 : decode cX5_next 47 = .ok (.aload_n 0, 1) := dk_42 (dk_at dksX5_next_1 23 rfl rfl)
theorem dX5_next_48 : decode cX5_next 48 = .ok (.iconst 0, 1) := dk_3 (dk_at dksX5_next_2 0 rfl rfl)
theorem dX5_next_49 : decode cX5_next 49 = .ok (.putfield 120, 3) := dk_181 0 120 (dk_at dksX5_next_2 1 rfl rfl)
theorem dX5_next_52 : decode cX5_next 52 = .ok (.goto 163, 3) := dk_167 0 163 (dk_at dksX5_next_2 4 rfl rfl)
theorem dX5_next_55 : decode cX5_next 55 = .ok (.aload_n 0, 1) := dk_42 (dk_at dksX5_next_2 7 rfl rfl)
theorem dX5_next_56 : decode cX5_next 56 = .ok (.invokevirtual 146, 3) := dk_182 0 146 (dk_at dksX5_next_2 8 rfl rfl)
theorem dX5_next_59 : decode cX5_next 59 = .ok (.ifCond .eq 34, 3) := dk_153 0 34 (dk_at dksX5_next_2 11 rfl rfl)
theorem dX5_next_62 : decode cX5_next 62 = .ok (.aload_n 0, 1) := dk_42 (dk_at dksX5_next_2 14 rfl rfl)
theorem dX5_next_63 : decode cX5_next 63 = .ok (.invokevirtual 146, 3) := dk_182 0 146 (dk_at dksX5_next_2 15 rfl rfl)
theorem dX5_next_66 : decode cX5_next 66 = .ok (.ifCond .eq 16, 3) := dk_153 0 16 (dk_at dksX5_next_2 18 rfl rfl)
theorem dX5_next_69 : decode cX5_next 69 = .ok (.aload_n 0, 1) := dk_42 (dk_at dksX5_next_2 21 rfl rfl)
theorem dX5_next_70 : decode cX5_next 70 = .ok (.dup, 1) := dk_89 (dk_at dksX5_next_2 22 rfl rfl)
theorem dX5_next_71 : decode cX5_next 71 = .ok (.getfield 23, 3) := dk_180 0 23 (dk_at dksX5_next_3 0 rfl rfl)
theorem dX5_next_74 : decode cX5_next 74 = .ok (.iconst 1, 1) := dk_4 (dk_at dksX5_next_3 3 rfl rfl)
theorem dX5_next_75 : decode cX5_next 75 = .ok (.iadd, 1) := dk_96 (dk_at dksX5_next_3 4 rfl rfl)
theorem dX5_next_76 : decode cX5_next 76 = .ok (.putfield 23, 3) := dk_181 0 23 (dk_at dksX5_next_3 5 rfl rfl)
theorem dX5_next_79 : decode cX5_next 79 = .ok (.goto (-17), 3) := dk_167 255 239 (dk_at dksX5_next_3 8 rfl rfl)
theorem dX5_next_82 : decode cX5_next 82 = .ok (.aload_n 0, 1) := dk_42 (dk_at dksX5_next_3 11 rfl rfl)
theorem dX5_next_83 : decode cX5_next 83 = .ok (.aload_n 0, 1) := dk_42 (dk_at dksX5_next_3 12 rfl rfl)
theorem dX5_next_84 : decode cX5_next 84 = .ok (.invokevirtual 150, 3) := dk_182 0 150 (dk_at dksX5_next_3 13 rfl rfl)
theorem dX5_next_87 : decode cX5_next 87 = .ok (.putfield 120, 3) := dk_181 0 120 (dk_at dksX5_next_3 16 rfl rfl)
theorem dX5_next_90 : decode cX5_next 90 = .ok (.goto 125, 3) := dk_167 0 125 (dk_at dksX5_next_3 19 rfl rfl)
theorem dX5_next_93 : decode cX5_next 93 = .ok (.aload_n 0, 1) := dk_42 (dk_at dksX5_next_3 22 rfl rfl)
theorem dX5_next_94 : decode cX5_next 94 = .ok (.invokevirtual 153, 3) := dk_182 0 153 (dk_at dksX5_next_4 0 rfl rfl)
theorem dX5_next_97 : decode cX5_next 97 = .ok (.ifCond .eq 85, 3) := dk_153 0 85 (dk_at dksX5_next_4 3 rfl rfl)
theorem dX5_next_100 : decode cX5_next 100 = .ok (.aload_n 0, 1) := dk_42 (dk_at dksX5_next_4 6 rfl rfl)
theorem dX5_next_101 : decode cX5_next 101 = .ok (.iconst 0, 1) := dk_3 (dk_at dksX5_next_4 7 rfl rfl)
theorem dX5_next_102 : decode cX5_next 102 = .ok (.putfield 128, 3) := dk_181 0 128 (dk_at dksX5_next_4 8 rfl rfl)
theorem dX5_next_105 : decode cX5_next 105 = .ok (.aload_n 0, 1) := dk_42 (dk_at dksX5_next_4 11 rfl rfl)
theorem dX5_next_106 : decode cX5_next 106 = .ok (.invokevirtual 153, 3) := dk_182 0 153 (dk_at dksX5_next_4 12 rfl rfl)
theorem dX5_next_109 : decode cX5_next 109 = .ok (.ifCond .eq 48, 3) := dk_153 0 48 (dk_at dksX5_next_4 15 rfl rfl)
theorem dX5_next_112 : decode cX5_next 112 = .ok (.aload_n 0, 1) := dk_42 (dk_at dksX5_next_4 18 rfl rfl)
theorem dX5_next_113 : decode cX5_next 113 = .ok (.getfield 23, 3) := dk_180 0 23 (dk_at dksX5_next_4 19 rfl rfl)
theorem dX5_next_116 : decode cX5_next 116 = .ok (.aload_n 0, 1) := dk_42 (dk_at dksX5_next_4 22 rfl rfl)
theorem dX5_next_117 : decode cX5_next 117 = .ok (.getfield 41, 3) := dk_180 0 41 (dk_at dksX5_next_5 0 rfl rfl)
theorem dX5_next_120 : decode cX5_next 120 = .ok (.iconst 4, 1) := dk_7 (dk_at dksX5_next_5 3 rfl rfl)
theorem dX5_next_121 : decode cX5_next 121 = .ok (.iadd, 1) := dk_96 (dk_at dksX5_next_5 4 rfl rfl)
theorem dX5_next_122 : decode cX5_next 122 = .ok (.if_icmp .ge 22, 3) := dk_162 0 22 (dk_at dksX5_next_5 5 rfl rfl)
theorem dX5_next_125 : decode cX5_next 125 = .ok (.aload_n 0, 1) := dk_42 (dk_at dksX5_next_5 8 rfl rfl)
theorem dX5_next_126 : decode cX5_next 126 = .ok (.bipush 10, 2) := dk_16 10 (dk_at dksX5_next_5 9 rfl rfl)
theorem dX5_next_128 : decode cX5_next 128 = .ok (.aload_n 0, 1) := dk_42 (dk_at dksX5_next_5 11 rfl rfl)
theorem dX5_next_129 : decode cX5_next 129 = .ok (.getfield 128, 3) := dk_180 0 128 (dk_at dksX5_next_5 12 rfl rfl)
theorem dX5_next_132 : decode cX5_next 132 = .ok (.imul, 1) := dk_104 (dk_at dksX5_next_5 15 rfl rfl)
theorem dX5_next_133 : decode cX5_next 133 = .ok (.aload_n 0, 1) := dk_42 (dk_at dksX5_next_5 16 rfl rfl)
theorem dX5_next_134 : decode cX5_next 134 = .ok (.invokevirtual 33, 3) := dk_182 0 33 (dk_at dksX5_next_5 17 rfl rfl)
theorem dX5_next_137 : decode cX5_next 137 = .ok (.iadd, 1) := dk_96 (dk_at dksX5_next_5 20 rfl rfl)
theorem dX5_next_138 : decode cX5_next 138 = .ok (.bipush 48, 2) := dk_16 48 (dk_at dksX5_next_5 21 rfl rfl)
theorem dX5_next_140 : decode cX5_next 140 = .ok (.isub, 1) := dk_100 (dk_at dksX5_next_5 23 rfl rfl)
theorem dX5_next_141 : decode cX5_next 141 = .ok (.putfield 128, 3) := dk_181 0 128 (dk_at dksX5_next_6 0 rfl rfl)
theorem dX5_next_144 : decode cX5_next 144 = .ok (.aload_n 0, 1) := dk_42 (dk_at dksX5_next_6 3 rfl rfl)
theorem dX5_next_145 : decode cX5_next 145 = .ok (.dup, 1) := dk_89 (dk_at dksX5_next_6 4 rfl rfl)
theorem dX5_next_146 : decode cX5_next 146 = .ok (.getfield 23, 3) := dk_180 0 23 (dk_at dksX5_next_6 5 rfl rfl)
theorem dX5_next_149 : decode cX5_next 149 = .ok (.iconst 1, 1) := dk_4 (dk_at dksX5_next_6 8 rfl rfl)
theorem dX5_next_150 : decode cX5_next 150 = .ok (.iadd, 1) := dk_96 (dk_at dksX5_next_6 9 rfl rfl)
theorem dX5_next_151 : decode cX5_next 151 = .ok (.putfield 23, 3) := dk_181 0 23 (dk_at dksX5_next_6 10 rfl rfl)
theorem dX5_next_154 : decode cX5_next 154 = .ok (.goto (-49), 3) := dk_167 255 207 (dk_at dksX5_next_6 13 rfl rfl)
theorem dX5_next_157 : decode cX5_next 157 = .ok (.aload_n 0, 1) := dk_42 (dk_at dksX5_next_6 16 rfl rfl)
theorem dX5_next_158 : decode cX5_next 158 = .ok (.aload_n 0, 1) := dk_42 (dk_at dksX5_next_6 17 rfl rfl)
theorem dX5_next_159 : decode cX5_next 159 = .ok (.getfield 23, 3) := dk_180 0 23 (dk_at dksX5_next_6 18 rfl rfl)
theorem dX5_next_162 : decode cX5_next 162 = .ok (.aload_n 0, 1) := dk_42 (dk_at dksX5_next_6 21 rfl rfl)
theorem dX5_next_163 : decode cX5_next 163 = .ok (.getfield 41, 3) := dk_180 0 41 (dk_at dksX5_next_7 0 rfl rfl)
theorem dX5_next_166 : decode cX5_next 166 = .ok (.isub, 1) := dk_100 (dk_at dksX5_next_7 3 rfl rfl)
theorem dX5_next_167 : decode cX5_next 167 = .ok (.iconst 5, 1) := dk_8 (dk_at dksX5_next_7 4 rfl rfl)
theorem dX5_next_168 : decode cX5_next 168 = .ok (.if_icmp .ge 7, 3) := dk_162 0 7 (dk_at dksX5_next_7 5 rfl rfl)
theorem dX5_next_171 : decode cX5_next 171 = .ok (.iconst 2, 1) := dk_5 (dk_at dksX5_next_7 8 rfl rfl)
theorem dX5_next_172 : decode cX5_next 172 = .ok (.goto 4, 3) := dk_167 0 4 (dk_at dksX5_next_7 9 rfl rfl)
theorem dX5_next_175 : decode cX5_next 175 = .ok (.iconst 1, 1) := dk_4 (dk_at dksX5_next_7 12 rfl rfl)
theorem dX5_next_176 : decode cX5_next 176 = .ok (.putfield 120, 3) := dk_181 0 120 (dk_at dksX5_next_7 13 rfl rfl)
theorem dX5_next_179 : decode cX5_next 179 = .ok (.goto 36, 3) := dk_167 0 36 (dk_at dksX5_next_7 16 rfl rfl)
theorem dX5_next_182 : decode cX5_next 182 = .ok (.aload_n 0, 1) := dk_42 (dk_at dksX5_next_7 19 rfl rfl)
theorem dX5_next_183 : decode cX5_next 183 = .ok (.aload_n 0, 1) := dk_42 (dk_at dksX5_next_7 20 rfl rfl)
theorem dX5_next_184 : decode cX5_next 184 = .ok (.aload_n 0, 1) := dk_42 (dk_at dksX5_next_7 21 rfl rfl)
theorem dX5_next_185 : decode cX5_next 185 = .ok (.invokevirtual 33, 3) := dk_182 0 33 (dk_at dksX5_next_8 0 rfl rfl)
theorem dX5_next_188 : decode cX5_next 188 = .ok (.invokevirtual 156, 3) := dk_182 0 156 (dk_at dksX5_next_8 3 rfl rfl)
theorem dX5_next_191 : decode cX5_next 191 = .ok (.ifCond .eq 10, 3) := dk_153 0 10 (dk_at dksX5_next_8 6 rfl rfl)
theorem dX5_next_194 : decode cX5_next 194 = .ok (.aload_n 0, 1) := dk_42 (dk_at dksX5_next_8 9 rfl rfl)
theorem dX5_next_195 : decode cX5_next 195 = .ok (.invokevirtual 33, 3) := dk_182 0 33 (dk_at dksX5_next_8 10 rfl rfl)
theorem dX5_next_198 : decode cX5_next 198 = .ok (.goto 4, 3) := dk_167 0 4 (dk_at dksX5_next_8 13 rfl rfl)
theorem dX5_next_201 : decode cX5_next 201 = .ok (.iconst 1, 1) := dk_4 (dk_at dksX5_next_8 16 rfl rfl)
theorem dX5_next_202 : decode cX5_next 202 = .ok (.putfield 120, 3) := dk_181 0 120 (dk_at dksX5_next_8 17 rfl rfl)
theorem dX5_next_205 : decode cX5_next 205 = .ok (.aload_n 0, 1) := dk_42 (dk_at dksX5_next_8 20 rfl rfl)
theorem dX5_next_206 : decode cX5_next 206 = .ok (.dup, 1) := dk_89 (dk_at dksX5_next_8 21 rfl rfl)
theorem dX5_next_207 : decode cX5_next 207 = .ok (.getfield 23, 3) := dk_180 0 23 (dk_at dksX5_next_9 0 rfl rfl)
theorem dX5_next_210 : decode cX5_next 210 = .ok (.iconst 1, 1) := dk_4 (dk_at dksX5_next_9 3 rfl rfl)
theorem dX5_next_211 : decode cX5_next 211 = .ok (.iadd, 1) := dk_96 (dk_at dksX5_next_9 4 rfl rfl)
theorem dX5_next_212 : decode cX5_next 212 = .ok (.putfield 23, 3) := dk_181 0 23 (dk_at dksX5_next_9 5 rfl rfl)
theorem dX5_next_215 : decode cX5_next 215 = .ok (.return_, 1) := dk_177 (dk_at dksX5_next_9 8 rfl rfl)
abbrev cX5_see : ByteArray := prog_17_method_2_code
def yX5_see : MethodName := ⟨RX5, "see", "()I"⟩
def dkwX5_see_1 : List UInt8 := [180, 0, 23, 51, 17, 0, 255, 126, 167, 0, 4, 2, 172]
abbrev dktX5_see_1 : List UInt8 := dkwX5_see_1 ++ []
def dkwX5_see_0 : List UInt8 := [42, 180, 0, 23, 42, 180, 0, 3, 180, 0, 26, 162, 0, 22, 42, 180, 0, 3, 180, 0, 29, 42]
abbrev dktX5_see_0 : List UInt8 := dkwX5_see_0 ++ dktX5_see_1
theorem dksX5_see_0 : cX5_see.data.toList.drop 0 = dktX5_see_0 := by decide +kernel
theorem dksX5_see_1 : cX5_see.data.toList.drop 22 = dktX5_see_1 := dk_seg dksX5_see_0 22 rfl rfl
theorem dX5_see_0 : decode cX5_see 0 = .ok (.aload_n 0, 1) := dk_42 (dk_at dksX5_see_0 0 rfl rfl)
theorem dX5_see_1 : decode cX5_see 1 = .ok (.getfield 23, 3) := dk_180 0 23 (dk_at dksX5_see_0 1 rfl rfl)
theorem dX5_see_4 : decode cX5_see 4 = .ok (.aload_n 0, 1) := dk_42 (dk_at dksX5_see_0 4 rfl rfl)
theorem dX5_see_5 : decode cX5_see 5 = .ok (.getfield 3, 3) := dk_180 0 3 (dk_at dksX5_see_0 5 rfl rfl)
theorem dX5_see_8 : decode cX5_see 8 = .ok (.getfield 26, 3) := dk_180 0 26 (dk_at dksX5_see_0 8 rfl rfl)
theorem dX5_see_11 : decode cX5_see 11 = .ok (.if_icmp .ge 22, 3) := dk_162 0 22 (dk_at dksX5_see_0 11 rfl rfl)
theorem dX5_see_14 : decode cX5_see 14 = .ok (.aload_n 0, 1) := dk_42 (dk_at dksX5_see_0 14 rfl rfl)
theorem dX5_see_15 : decode cX5_see 15 = .ok (.getfield 3, 3) := dk_180 0 3 (dk_at dksX5_see_0 15 rfl rfl)
theorem dX5_see_18 : decode cX5_see 18 = .ok (.getfield 29, 3) := dk_180 0 29 (dk_at dksX5_see_0 18 rfl rfl)
theorem dX5_see_21 : decode cX5_see 21 = .ok (.aload_n 0, 1) := dk_42 (dk_at dksX5_see_0 21 rfl rfl)
theorem dX5_see_22 : decode cX5_see 22 = .ok (.getfield 23, 3) := dk_180 0 23 (dk_at dksX5_see_1 0 rfl rfl)
theorem dX5_see_25 : decode cX5_see 25 = .ok (.baload, 1) := dk_51 (dk_at dksX5_see_1 3 rfl rfl)
theorem dX5_see_26 : decode cX5_see 26 = .ok (.sipush 255, 3) := dk_17 0 255 (dk_at dksX5_see_1 4 rfl rfl)
theorem dX5_see_29 : decode cX5_see 29 = .ok (.iand, 1) := dk_126 (dk_at dksX5_see_1 7 rfl rfl)
theorem dX5_see_30 : decode cX5_see 30 = .ok (.goto 4, 3) := dk_167 0 4 (dk_at dksX5_see_1 8 rfl rfl)
theorem dX5_see_33 : decode cX5_see 33 = .ok (.iconst (-1), 1) := dk_2 (dk_at dksX5_see_1 11 rfl rfl)
theorem dX5_see_34 : decode cX5_see 34 = .ok (.ireturn, 1) := dk_172 (dk_at dksX5_see_1 12 rfl rfl)
abbrev cX5_isLetter : ByteArray := prog_17_method_3_code
def yX5_isLetter : MethodName := ⟨RX5, "isLetter", "()Z"⟩
def dkwX5_isLetter_1 : List UInt8 := [184, 0, 37, 153, 0, 7, 4, 167, 0, 4, 3, 172]
abbrev dktX5_isLetter_1 : List UInt8 := dkwX5_isLetter_1 ++ []
def dkwX5_isLetter_0 : List UInt8 := [42, 182, 0, 33, 16, 97, 16, 122, 184, 0, 37, 154, 0, 17, 42, 182, 0, 33, 16, 65, 16, 90]
abbrev dktX5_isLetter_0 : List UInt8 := dkwX5_isLetter_0 ++ dktX5_isLetter_1
theorem dksX5_isLetter_0 : cX5_isLetter.data.toList.drop 0 = dktX5_isLetter_0 := by decide +kernel
theorem dksX5_isLetter_1 : cX5_isLetter.data.toList.drop 22 = dktX5_isLetter_1 := dk_seg dksX5_isLetter_0 22 rfl rfl
theorem dX5_isLetter_0 : decode cX5_isLetter 0 = .ok (.aload_n 0, 1) := dk_42 (dk_at dksX5_isLetter_0 0 rfl rfl)
theorem dX5_isLetter_1 : decode cX5_isLetter 1 = .ok (.invokevirtual 33, 3) := dk_182 0 33 (dk_at dksX5_isLetter_0 1 rfl rfl)
theorem dX5_isLetter_4 : decode cX5_isLetter 4 = .ok (.bipush 97, 2) := dk_16 97 (dk_at dksX5_isLetter_0 4 rfl rfl)
theorem dX5_isLetter_6 : decode cX5_isLetter 6 = .ok (.bipush 122, 2) := dk_16 122 (dk_at dksX5_isLetter_0 6 rfl rfl)
theorem dX5_isLetter_8 : decode cX5_isLetter 8 = .ok (.invokestatic 37, 3) := dk_184 0 37 (dk_at dksX5_isLetter_0 8 rfl rfl)
theorem dX5_isLetter_11 : decode cX5_isLetter 11 = .ok (.ifCond .ne 17, 3) := dk_154 0 17 (dk_at dksX5_isLetter_0 11 rfl rfl)
theorem dX5_isLetter_14 : decode cX5_isLetter 14 = .ok (.aload_n 0, 1) := dk_42 (dk_at dksX5_isLetter_0 14 rfl rfl)
theorem dX5_isLetter_15 : decode cX5_isLetter 15 = .ok (.invokevirtual 33, 3) := dk_182 0 33 (dk_at dksX5_isLetter_0 15 rfl rfl)
theorem dX5_isLetter_18 : decode cX5_isLetter 18 = .ok (.bipush 65, 2) := dk_16 65 (dk_at dksX5_isLetter_0 18 rfl rfl)
theorem dX5_isLetter_20 : decode cX5_isLetter 20 = .ok (.bipush 90, 2) := dk_16 90 (dk_at dksX5_isLetter_0 20 rfl rfl)
theorem dX5_isLetter_22 : decode cX5_isLetter 22 = .ok (.invokestatic 37, 3) := dk_184 0 37 (dk_at dksX5_isLetter_1 0 rfl rfl)
theorem dX5_isLetter_25 : decode cX5_isLetter 25 = .ok (.ifCond .eq 7, 3) := dk_153 0 7 (dk_at dksX5_isLetter_1 3 rfl rfl)
theorem dX5_isLetter_28 : decode cX5_isLetter 28 = .ok (.iconst 1, 1) := dk_4 (dk_at dksX5_isLetter_1 6 rfl rfl)
theorem dX5_isLetter_29 : decode cX5_isLetter 29 = .ok (.goto 4, 3) := dk_167 0 4 (dk_at dksX5_isLetter_1 7 rfl rfl)
theorem dX5_isLetter_32 : decode cX5_isLetter 32 = .ok (.iconst 0, 1) := dk_3 (dk_at dksX5_isLetter_1 10 rfl rfl)
theorem dX5_isLetter_33 : decode cX5_isLetter 33 = .ok (.ireturn, 1) := dk_172 (dk_at dksX5_isLetter_1 11 rfl rfl)
abbrev cX5_keyword : ByteArray := prog_17_method_9_code
def yX5_keyword : MethodName := ⟨RX5, "keyword", "()I"⟩
def dkwX5_keyword_6 : List UInt8 := [16, 19, 167, 0, 4, 4, 172]
abbrev dktX5_keyword_6 : List UInt8 := dkwX5_keyword_6 ++ []
def dkwX5_keyword_5 : List UInt8 := [42, 18, 116, 182, 0, 55, 153, 0, 8, 16, 18, 167, 0, 18, 42, 18, 118, 182, 0, 55, 153, 0, 8]
abbrev dktX5_keyword_5 : List UInt8 := dkwX5_keyword_5 ++ dktX5_keyword_6
def dkwX5_keyword_4 : List UInt8 := [167, 0, 18, 42, 18, 111, 182, 0, 55, 153, 0, 8, 16, 13, 167, 0, 4, 4, 172, 42, 182, 0, 113, 172]
abbrev dktX5_keyword_4 : List UInt8 := dkwX5_keyword_4 ++ dktX5_keyword_5
def dkwX5_keyword_3 : List UInt8 := [182, 0, 55, 153, 0, 8, 16, 11, 167, 0, 32, 42, 18, 77, 182, 0, 55, 153, 0, 8, 16, 12]
abbrev dktX5_keyword_3 : List UInt8 := dkwX5_keyword_3 ++ dktX5_keyword_4
def dkwX5_keyword_2 : List UInt8 := [42, 182, 0, 108, 172, 42, 18, 98, 182, 0, 55, 153, 0, 8, 16, 10, 167, 0, 46, 42, 18, 75]
abbrev dktX5_keyword_2 : List UInt8 := dkwX5_keyword_2 ++ dktX5_keyword_3
def dkwX5_keyword_1 : List UInt8 := [170, 0, 0, 0, 0, 0, 0, 96, 0, 0, 0, 0, 0, 0, 0, 2, 0, 0, 0, 28, 0, 0, 0, 33, 0, 0, 0, 91]
abbrev dktX5_keyword_1 : List UInt8 := dkwX5_keyword_1 ++ dktX5_keyword_2
def dkwX5_keyword_0 : List UInt8 := [42, 180, 0, 19]
abbrev dktX5_keyword_0 : List UInt8 := dkwX5_keyword_0 ++ dktX5_keyword_1
theorem dksX5_keyword_0 : cX5_keyword.data.toList.drop 0 = dktX5_keyword_0 := by decide +kernel
theorem dksX5_keyword_1 : cX5_keyword.data.toList.drop 4 = dktX5_keyword_1 := dk_seg dksX5_keyword_0 4 rfl rfl
theorem dksX5_keyword_2 : cX5_keyword.data.toList.drop 32 = dktX5_keyword_2 := dk_seg dksX5_keyword_1 28 rfl rfl
theorem dksX5_keyword_3 : cX5_keyword.data.toList.drop 54 = dktX5_keyword_3 := dk_seg dksX5_keyword_2 22 rfl rfl
theorem dksX5_keyword_4 : cX5_keyword.data.toList.drop 76 = dktX5_keyword_4 := dk_seg dksX5_keyword_3 22 rfl rfl
theorem dksX5_keyword_5 : cX5_keyword.data.toList.drop 100 = dktX5_keyword_5 := dk_seg dksX5_keyword_4 24 rfl rfl
theorem dksX5_keyword_6 : cX5_keyword.data.toList.drop 123 = dktX5_keyword_6 := dk_seg dksX5_keyword_5 23 rfl rfl
theorem dX5_keyword_0 : decode cX5_keyword 0 = .ok (.aload_n 0, 1) := dk_42 (dk_at dksX5_keyword_0 0 rfl rfl)
theorem dX5_keyword_1 : decode cX5_keyword 1 = .ok (.getfield 19, 3) := dk_180 0 19 (dk_at dksX5_keyword_0 1 rfl rfl)
theorem dX5_keyword_4 : decode cX5_keyword 4 = .ok (.tableswitch 96 0 2 #[28, 33, 91], 28) := by decide +kernel
theorem dX5_keyword_32 : decode cX5_keyword 32 = .ok (.aload_n 0, 1) := dk_42 (dk_at dksX5_keyword_2 0 rfl rfl)
theorem dX5_keyword_33 : decode cX5_keyword 33 = .ok (.invokevirtual 108, 3) := dk_182 0 108 (dk_at dksX5_keyword_2 1 rfl rfl)
theorem dX5_keyword_36 : decode cX5_keyword 36 = .ok (.ireturn, 1) := dk_172 (dk_at dksX5_keyword_2 4 rfl rfl)
theorem dX5_keyword_37 : decode cX5_keyword 37 = .ok (.aload_n 0, 1) := dk_42 (dk_at dksX5_keyword_2 5 rfl rfl)
theorem dX5_keyword_38 : decode cX5_keyword 38 = .ok (.ldc 98, 2) := dk_18 98 (dk_at dksX5_keyword_2 6 rfl rfl)
theorem dX5_keyword_40 : decode cX5_keyword 40 = .ok (.invokevirtual 55, 3) := dk_182 0 55 (dk_at dksX5_keyword_2 8 rfl rfl)
theorem dX5_keyword_43 : decode cX5_keyword 43 = .ok (.ifCond .eq 8, 3) := dk_153 0 8 (dk_at dksX5_keyword_2 11 rfl rfl)
theorem dX5_keyword_46 : decode cX5_keyword 46 = .ok (.bipush 10, 2) := dk_16 10 (dk_at dksX5_keyword_2 14 rfl rfl)
theorem dX5_keyword_48 : decode cX5_keyword 48 = .ok (.goto 46, 3) := dk_167 0 46 (dk_at dksX5_keyword_2 16 rfl rfl)
theorem dX5_keyword_51 : decode cX5_keyword 51 = .ok (.aload_n 0, 1) := dk_42 (dk_at dksX5_keyword_2 19 rfl rfl)
theorem dX5_keyword_52 : decode cX5_keyword 52 = .ok (.ldc 75, 2) := dk_18 75 (dk_at dksX5_keyword_2 20 rfl rfl)
theorem dX5_keyword_54 : decode cX5_keyword 54 = .ok (.invokevirtual 55, 3) := dk_182 0 55 (dk_at dksX5_keyword_3 0 rfl rfl)
theorem dX5_keyword_57 : decode cX5_keyword 57 = .ok (.ifCond .eq 8, 3) := dk_153 0 8 (dk_at dksX5_keyword_3 3 rfl rfl)
theorem dX5_keyword_60 : decode cX5_keyword 60 = .ok (.bipush 11, 2) := dk_16 11 (dk_at dksX5_keyword_3 6 rfl rfl)
theorem dX5_keyword_62 : decode cX5_keyword 62 = .ok (.goto 32, 3) := dk_167 0 32 (dk_at dksX5_keyword_3 8 rfl rfl)
theorem dX5_keyword_65 : decode cX5_keyword 65 = .ok (.aload_n 0, 1) := dk_42 (dk_at dksX5_keyword_3 11 rfl rfl)
theorem dX5_keyword_66 : decode cX5_keyword 66 = .ok (.ldc 77, 2) := dk_18 77 (dk_at dksX5_keyword_3 12 rfl rfl)
theorem dX5_keyword_68 : decode cX5_keyword 68 = .ok (.invokevirtual 55, 3) := dk_182 0 55 (dk_at dksX5_keyword_3 14 rfl rfl)
theorem dX5_keyword_71 : decode cX5_keyword 71 = .ok (.ifCond .eq 8, 3) := dk_153 0 8 (dk_at dksX5_keyword_3 17 rfl rfl)
theorem dX5_keyword_74 : decode cX5_keyword 74 = .ok (.bipush 12, 2) := dk_16 12 (dk_at dksX5_keyword_3 20 rfl rfl)
theorem dX5_keyword_76 : decode cX5_keyword 76 = .ok (.goto 18, 3) := dk_167 0 18 (dk_at dksX5_keyword_4 0 rfl rfl)
theorem dX5_keyword_79 : decode cX5_keyword 79 = .ok (.aload_n 0, 1) := dk_42 (dk_at dksX5_keyword_4 3 rfl rfl)
theorem dX5_keyword_80 : decode cX5_keyword 80 = .ok (.ldc 111, 2) := dk_18 111 (dk_at dksX5_keyword_4 4 rfl rfl)
theorem dX5_keyword_82 : decode cX5_keyword 82 = .ok (.invokevirtual 55, 3) := dk_182 0 55 (dk_at dksX5_keyword_4 6 rfl rfl)
theorem dX5_keyword_85 : decode cX5_keyword 85 = .ok (.ifCond .eq 8, 3) := dk_153 0 8 (dk_at dksX5_keyword_4 9 rfl rfl)
theorem dX5_keyword_88 : decode cX5_keyword 88 = .ok (.bipush 13, 2) := dk_16 13 (dk_at dksX5_keyword_4 12 rfl rfl)
theorem dX5_keyword_90 : decode cX5_keyword 90 = .ok (.goto 4, 3) := dk_167 0 4 (dk_at dksX5_keyword_4 14 rfl rfl)
theorem dX5_keyword_93 : decode cX5_keyword 93 = .ok (.iconst 1, 1) := dk_4 (dk_at dksX5_keyword_4 17 rfl rfl)
theorem dX5_keyword_94 : decode cX5_keyword 94 = .ok (.ireturn, 1) := dk_172 (dk_at dksX5_keyword_4 18 rfl rfl)
theorem dX5_keyword_95 : decode cX5_keyword 95 = .ok (.aload_n 0, 1) := dk_42 (dk_at dksX5_keyword_4 19 rfl rfl)
theorem dX5_keyword_96 : decode cX5_keyword 96 = .ok (.invokevirtual 113, 3) := dk_182 0 113 (dk_at dksX5_keyword_4 20 rfl rfl)
theorem dX5_keyword_99 : decode cX5_keyword 99 = .ok (.ireturn, 1) := dk_172 (dk_at dksX5_keyword_4 23 rfl rfl)
theorem dX5_keyword_100 : decode cX5_keyword 100 = .ok (.aload_n 0, 1) := dk_42 (dk_at dksX5_keyword_5 0 rfl rfl)
theorem dX5_keyword_101 : decode cX5_keyword 101 = .ok (.ldc 116, 2) := dk_18 116 (dk_at dksX5_keyword_5 1 rfl rfl)
theorem dX5_keyword_103 : decode cX5_keyword 103 = .ok (.invokevirtual 55, 3) := dk_182 0 55 (dk_at dksX5_keyword_5 3 rfl rfl)
theorem dX5_keyword_106 : decode cX5_keyword 106 = .ok (.ifCond .eq 8, 3) := dk_153 0 8 (dk_at dksX5_keyword_5 6 rfl rfl)
theorem dX5_keyword_109 : decode cX5_keyword 109 = .ok (.bipush 18, 2) := dk_16 18 (dk_at dksX5_keyword_5 9 rfl rfl)
theorem dX5_keyword_111 : decode cX5_keyword 111 = .ok (.goto 18, 3) := dk_167 0 18 (dk_at dksX5_keyword_5 11 rfl rfl)
theorem dX5_keyword_114 : decode cX5_keyword 114 = .ok (.aload_n 0, 1) := dk_42 (dk_at dksX5_keyword_5 14 rfl rfl)
theorem dX5_keyword_115 : decode cX5_keyword 115 = .ok (.ldc 118, 2) := dk_18 118 (dk_at dksX5_keyword_5 15 rfl rfl)
theorem dX5_keyword_117 : decode cX5_keyword 117 = .ok (.invokevirtual 55, 3) := dk_182 0 55 (dk_at dksX5_keyword_5 17 rfl rfl)
theorem dX5_keyword_120 : decode cX5_keyword 120 = .ok (.ifCond .eq 8, 3) := dk_153 0 8 (dk_at dksX5_keyword_5 20 rfl rfl)
theorem dX5_keyword_123 : decode cX5_keyword 123 = .ok (.bipush 19, 2) := dk_16 19 (dk_at dksX5_keyword_6 0 rfl rfl)
theorem dX5_keyword_125 : decode cX5_keyword 125 = .ok (.goto 4, 3) := dk_167 0 4 (dk_at dksX5_keyword_6 2 rfl rfl)
theorem dX5_keyword_128 : decode cX5_keyword 128 = .ok (.iconst 1, 1) := dk_4 (dk_at dksX5_keyword_6 5 rfl rfl)
theorem dX5_keyword_129 : decode cX5_keyword 129 = .ok (.ireturn, 1) := dk_172 (dk_at dksX5_keyword_6 6 rfl rfl)
abbrev cX5_lawWord : ByteArray := prog_17_method_7_code
def yX5_lawWord : MethodName := ⟨RX5, "lawWord", "()I"⟩
def dkwX5_lawWord_3 : List UInt8 := [18, 93, 182, 0, 55, 153, 0, 8, 16, 9, 167, 0, 7, 42, 182, 0, 95, 172]
abbrev dktX5_lawWord_3 : List UInt8 := dkwX5_lawWord_3 ++ []
def dkwX5_lawWord_2 : List UInt8 := [18, 89, 182, 0, 55, 153, 0, 6, 16, 7, 172, 42, 18, 91, 182, 0, 55, 153, 0, 6, 16, 8, 172, 42]
abbrev dktX5_lawWord_2 : List UInt8 := dkwX5_lawWord_2 ++ dktX5_lawWord_3
def dkwX5_lawWord_1 : List UInt8 := [18, 85, 182, 0, 55, 153, 0, 5, 8, 172, 42, 18, 87, 182, 0, 55, 153, 0, 6, 16, 6, 172, 42]
abbrev dktX5_lawWord_1 : List UInt8 := dkwX5_lawWord_1 ++ dktX5_lawWord_2
def dkwX5_lawWord_0 : List UInt8 := [42, 18, 81, 182, 0, 55, 153, 0, 5, 6, 172, 42, 18, 83, 182, 0, 55, 153, 0, 5, 7, 172, 42]
abbrev dktX5_lawWord_0 : List UInt8 := dkwX5_lawWord_0 ++ dktX5_lawWord_1
theorem dksX5_lawWord_0 : cX5_lawWord.data.toList.drop 0 = dktX5_lawWord_0 := by decide +kernel
theorem dksX5_lawWord_1 : cX5_lawWord.data.toList.drop 23 = dktX5_lawWord_1 := dk_seg dksX5_lawWord_0 23 rfl rfl
theorem dksX5_lawWord_2 : cX5_lawWord.data.toList.drop 46 = dktX5_lawWord_2 := dk_seg dksX5_lawWord_1 23 rfl rfl
theorem dksX5_lawWord_3 : cX5_lawWord.data.toList.drop 70 = dktX5_lawWord_3 := dk_seg dksX5_lawWord_2 24 rfl rfl
theorem dX5_lawWord_0 : decode cX5_lawWord 0 = .ok (.aload_n 0, 1) := dk_42 (dk_at dksX5_lawWord_0 0 rfl rfl)
theorem dX5_lawWord_1 : decode cX5_lawWord 1 = .ok (.ldc 81, 2) := dk_18 81 (dk_at dksX5_lawWord_0 1 rfl rfl)
theorem dX5_lawWord_3 : decode cX5_lawWord 3 = .ok (.invokevirtual 55, 3) := dk_182 0 55 (dk_at dksX5_lawWord_0 3 rfl rfl)
theorem dX5_lawWord_6 : decode cX5_lawWord 6 = .ok (.ifCond .eq 5, 3) := dk_153 0 5 (dk_at dksX5_lawWord_0 6 rfl rfl)
theorem dX5_lawWord_9 : decode cX5_lawWord 9 = .ok (.iconst 3, 1) := dk_6 (dk_at dksX5_lawWord_0 9 rfl rfl)
theorem dX5_lawWord_10 : decode cX5_lawWord 10 = .ok (.ireturn, 1) := dk_172 (dk_at dksX5_lawWord_0 10 rfl rfl)
theorem dX5_lawWord_11 : decode cX5_lawWord 11 = .ok (.aload_n 0, 1) := dk_42 (dk_at dksX5_lawWord_0 11 rfl rfl)
theorem dX5_lawWord_12 : decode cX5_lawWord 12 = .ok (.ldc 83, 2) := dk_18 83 (dk_at dksX5_lawWord_0 12 rfl rfl)
theorem dX5_lawWord_14 : decode cX5_lawWord 14 = .ok (.invokevirtual 55, 3) := dk_182 0 55 (dk_at dksX5_lawWord_0 14 rfl rfl)
theorem dX5_lawWord_17 : decode cX5_lawWord 17 = .ok (.ifCond .eq 5, 3) := dk_153 0 5 (dk_at dksX5_lawWord_0 17 rfl rfl)
theorem dX5_lawWord_20 : decode cX5_lawWord 20 = .ok (.iconst 4, 1) := dk_7 (dk_at dksX5_lawWord_0 20 rfl rfl)
theorem dX5_lawWord_21 : decode cX5_lawWord 21 = .ok (.ireturn, 1) := dk_172 (dk_at dksX5_lawWord_0 21 rfl rfl)
theorem dX5_lawWord_22 : decode cX5_lawWord 22 = .ok (.aload_n 0, 1) := dk_42 (dk_at dksX5_lawWord_0 22 rfl rfl)
theorem dX5_lawWord_23 : decode cX5_lawWord 23 = .ok (.ldc 85, 2) := dk_18 85 (dk_at dksX5_lawWord_1 0 rfl rfl)
theorem dX5_lawWord_25 : decode cX5_lawWord 25 = .ok (.invokevirtual 55, 3) := dk_182 0 55 (dk_at dksX5_lawWord_1 2 rfl rfl)
theorem dX5_lawWord_28 : decode cX5_lawWord 28 = .ok (.ifCond .eq 5, 3) := dk_153 0 5 (dk_at dksX5_lawWord_1 5 rfl rfl)
theorem dX5_lawWord_31 : decode cX5_lawWord 31 = .ok (.iconst 5, 1) := dk_8 (dk_at dksX5_lawWord_1 8 rfl rfl)
theorem dX5_lawWord_32 : decode cX5_lawWord 32 = .ok (.ireturn, 1) := dk_172 (dk_at dksX5_lawWord_1 9 rfl rfl)
theorem dX5_lawWord_33 : decode cX5_lawWord 33 = .ok (.aload_n 0, 1) := dk_42 (dk_at dksX5_lawWord_1 10 rfl rfl)
theorem dX5_lawWord_34 : decode cX5_lawWord 34 = .ok (.ldc 87, 2) := dk_18 87 (dk_at dksX5_lawWord_1 11 rfl rfl)
theorem dX5_lawWord_36 : decode cX5_lawWord 36 = .ok (.invokevirtual 55, 3) := dk_182 0 55 (dk_at dksX5_lawWord_1 13 rfl rfl)
theorem dX5_lawWord_39 : decode cX5_lawWord 39 = .ok (.ifCond .eq 6, 3) := dk_153 0 6 (dk_at dksX5_lawWord_1 16 rfl rfl)
theorem dX5_lawWord_42 : decode cX5_lawWord 42 = .ok (.bipush 6, 2) := dk_16 6 (dk_at dksX5_lawWord_1 19 rfl rfl)
theorem dX5_lawWord_44 : decode cX5_lawWord 44 = .ok (.ireturn, 1) := dk_172 (dk_at dksX5_lawWord_1 21 rfl rfl)
theorem dX5_lawWord_45 : decode cX5_lawWord 45 = .ok (.aload_n 0, 1) := dk_42 (dk_at dksX5_lawWord_1 22 rfl rfl)
theorem dX5_lawWord_46 : decode cX5_lawWord 46 = .ok (.ldc 89, 2) := dk_18 89 (dk_at dksX5_lawWord_2 0 rfl rfl)
theorem dX5_lawWord_48 : decode cX5_lawWord 48 = .ok (.invokevirtual 55, 3) := dk_182 0 55 (dk_at dksX5_lawWord_2 2 rfl rfl)
theorem dX5_lawWord_51 : decode cX5_lawWord 51 = .ok (.ifCond .eq 6, 3) := dk_153 0 6 (dk_at dksX5_lawWord_2 5 rfl rfl)
theorem dX5_lawWord_54 : decode cX5_lawWord 54 = .ok (.bipush 7, 2) := dk_16 7 (dk_at dksX5_lawWord_2 8 rfl rfl)
theorem dX5_lawWord_56 : decode cX5_lawWord 56 = .ok (.ireturn, 1) := dk_172 (dk_at dksX5_lawWord_2 10 rfl rfl)
theorem dX5_lawWord_57 : decode cX5_lawWord 57 = .ok (.aload_n 0, 1) := dk_42 (dk_at dksX5_lawWord_2 11 rfl rfl)
theorem dX5_lawWord_58 : decode cX5_lawWord 58 = .ok (.ldc 91, 2) := dk_18 91 (dk_at dksX5_lawWord_2 12 rfl rfl)
theorem dX5_lawWord_60 : decode cX5_lawWord 60 = .ok (.invokevirtual 55, 3) := dk_182 0 55 (dk_at dksX5_lawWord_2 14 rfl rfl)
theorem dX5_lawWord_63 : decode cX5_lawWord 63 = .ok (.ifCond .eq 6, 3) := dk_153 0 6 (dk_at dksX5_lawWord_2 17 rfl rfl)
theorem dX5_lawWord_66 : decode cX5_lawWord 66 = .ok (.bipush 8, 2) := dk_16 8 (dk_at dksX5_lawWord_2 20 rfl rfl)
theorem dX5_lawWord_68 : decode cX5_lawWord 68 = .ok (.ireturn, 1) := dk_172 (dk_at dksX5_lawWord_2 22 rfl rfl)
theorem dX5_lawWord_69 : decode cX5_lawWord 69 = .ok (.aload_n 0, 1) := dk_42 (dk_at dksX5_lawWord_2 23 rfl rfl)
theorem dX5_lawWord_70 : decode cX5_lawWord 70 = .ok (.ldc 93, 2) := dk_18 93 (dk_at dksX5_lawWord_3 0 rfl rfl)
theorem dX5_lawWord_72 : decode cX5_lawWord 72 = .ok (.invokevirtual 55, 3) := dk_182 0 55 (dk_at dksX5_lawWord_3 2 rfl rfl)
theorem dX5_lawWord_75 : decode cX5_lawWord 75 = .ok (.ifCond .eq 8, 3) := dk_153 0 8 (dk_at dksX5_lawWord_3 5 rfl rfl)
theorem dX5_lawWord_78 : decode cX5_lawWord 78 = .ok (.bipush 9, 2) := dk_16 9 (dk_at dksX5_lawWord_3 8 rfl rfl)
theorem dX5_lawWord_80 : decode cX5_lawWord 80 = .ok (.goto 7, 3) := dk_167 0 7 (dk_at dksX5_lawWord_3 10 rfl rfl)
theorem dX5_lawWord_83 : decode cX5_lawWord 83 = .ok (.aload_n 0, 1) := dk_42 (dk_at dksX5_lawWord_3 13 rfl rfl)
theorem dX5_lawWord_84 : decode cX5_lawWord 84 = .ok (.invokevirtual 95, 3) := dk_182 0 95 (dk_at dksX5_lawWord_3 14 rfl rfl)
theorem dX5_lawWord_87 : decode cX5_lawWord 87 = .ok (.ireturn, 1) := dk_172 (dk_at dksX5_lawWord_3 17 rfl rfl)
abbrev cX5_is : ByteArray := prog_17_method_5_code
def yX5_is : MethodName := ⟨RX5, "is", "(Ljava/lang/String;)Z"⟩
def dkwX5_is_2 : List UInt8 := [96, 51, 43, 29, 182, 0, 49, 160, 0, 7, 4, 167, 0, 4, 3, 61, 132, 3, 1, 167, 255, 213, 28, 172]
abbrev dktX5_is_2 : List UInt8 := dkwX5_is_2 ++ []
def dkwX5_is_1 : List UInt8 := [29, 43, 182, 0, 44, 162, 0, 41, 28, 153, 0, 37, 42, 180, 0, 3, 180, 0, 29, 42, 180, 0, 41, 29]
abbrev dktX5_is_1 : List UInt8 := dkwX5_is_1 ++ dktX5_is_2
def dkwX5_is_0 : List UInt8 := [42, 180, 0, 23, 42, 180, 0, 41, 100, 43, 182, 0, 44, 160, 0, 7, 4, 167, 0, 4, 3, 61, 3, 62]
abbrev dktX5_is_0 : List UInt8 := dkwX5_is_0 ++ dktX5_is_1
theorem dksX5_is_0 : cX5_is.data.toList.drop 0 = dktX5_is_0 := by decide +kernel
theorem dksX5_is_1 : cX5_is.data.toList.drop 24 = dktX5_is_1 := dk_seg dksX5_is_0 24 rfl rfl
theorem dksX5_is_2 : cX5_is.data.toList.drop 48 = dktX5_is_2 := dk_seg dksX5_is_1 24 rfl rfl
theorem dX5_is_0 : decode cX5_is 0 = .ok (.aload_n 0, 1) := dk_42 (dk_at dksX5_is_0 0 rfl rfl)
theorem dX5_is_1 : decode cX5_is 1 = .ok (.getfield 23, 3) := dk_180 0 23 (dk_at dksX5_is_0 1 rfl rfl)
theorem dX5_is_4 : decode cX5_is 4 = .ok (.aload_n 0, 1) := dk_42 (dk_at dksX5_is_0 4 rfl rfl)
theorem dX5_is_5 : decode cX5_is 5 = .ok (.getfield 41, 3) := dk_180 0 41 (dk_at dksX5_is_0 5 rfl rfl)
theorem dX5_is_8 : decode cX5_is 8 = .ok (.isub, 1) := dk_100 (dk_at dksX5_is_0 8 rfl rfl)
theorem dX5_is_9 : decode cX5_is 9 = .ok (.aload_n 1, 1) := dk_43 (dk_at dksX5_is_0 9 rfl rfl)
theorem dX5_is_10 : decode cX5_is 10 = .ok (.invokevirtual 44, 3) := dk_182 0 44 (dk_at dksX5_is_0 10 rfl rfl)
theorem dX5_is_13 : decode cX5_is 13 = .ok (.if_icmp .ne 7, 3) := dk_160 0 7 (dk_at dksX5_is_0 13 rfl rfl)
theorem dX5_is_16 : decode cX5_is 16 = .ok (.iconst 1, 1) := dk_4 (dk_at dksX5_is_0 16 rfl rfl)
theorem dX5_is_17 : decode cX5_is 17 = .ok (.goto 4, 3) := dk_167 0 4 (dk_at dksX5_is_0 17 rfl rfl)
theorem dX5_is_20 : decode cX5_is 20 = .ok (.iconst 0, 1) := dk_3 (dk_at dksX5_is_0 20 rfl rfl)
theorem dX5_is_21 : decode cX5_is 21 = .ok (.istore_n 2, 1) := dk_61 (dk_at dksX5_is_0 21 rfl rfl)
theorem dX5_is_22 : decode cX5_is 22 = .ok (.iconst 0, 1) := dk_3 (dk_at dksX5_is_0 22 rfl rfl)
theorem dX5_is_23 : decode cX5_is 23 = .ok (.istore_n 3, 1) := dk_62 (dk_at dksX5_is_0 23 rfl rfl)
theorem dX5_is_24 : decode cX5_is 24 = .ok (.iload_n 3, 1) := dk_29 (dk_at dksX5_is_1 0 rfl rfl)
theorem dX5_is_25 : decode cX5_is 25 = .ok (.aload_n 1, 1) := dk_43 (dk_at dksX5_is_1 1 rfl rfl)
theorem dX5_is_26 : decode cX5_is 26 = .ok (.invokevirtual 44, 3) := dk_182 0 44 (dk_at dksX5_is_1 2 rfl rfl)
theorem dX5_is_29 : decode cX5_is 29 = .ok (.if_icmp .ge 41, 3) := dk_162 0 41 (dk_at dksX5_is_1 5 rfl rfl)
theorem dX5_is_32 : decode cX5_is 32 = .ok (.iload_n 2, 1) := dk_28 (dk_at dksX5_is_1 8 rfl rfl)
theorem dX5_is_33 : decode cX5_is 33 = .ok (.ifCond .eq 37, 3) := dk_153 0 37 (dk_at dksX5_is_1 9 rfl rfl)
theorem dX5_is_36 : decode cX5_is 36 = .ok (.aload_n 0, 1) := dk_42 (dk_at dksX5_is_1 12 rfl rfl)
theorem dX5_is_37 : decode cX5_is 37 = .ok (.getfield 3, 3) := dk_180 0 3 (dk_at dksX5_is_1 13 rfl rfl)
theorem dX5_is_40 : decode cX5_is 40 = .ok (.getfield 29, 3) := dk_180 0 29 (dk_at dksX5_is_1 16 rfl rfl)
theorem dX5_is_43 : decode cX5_is 43 = .ok (.aload_n 0, 1) := dk_42 (dk_at dksX5_is_1 19 rfl rfl)
theorem dX5_is_44 : decode cX5_is 44 = .ok (.getfield 41, 3) := dk_180 0 41 (dk_at dksX5_is_1 20 rfl rfl)
theorem dX5_is_47 : decode cX5_is 47 = .ok (.iload_n 3, 1) := dk_29 (dk_at dksX5_is_1 23 rfl rfl)
theorem dX5_is_48 : decode cX5_is 48 = .ok (.iadd, 1) := dk_96 (dk_at dksX5_is_2 0 rfl rfl)
theorem dX5_is_49 : decode cX5_is 49 = .ok (.baload, 1) := dk_51 (dk_at dksX5_is_2 1 rfl rfl)
theorem dX5_is_50 : decode cX5_is 50 = .ok (.aload_n 1, 1) := dk_43 (dk_at dksX5_is_2 2 rfl rfl)
theorem dX5_is_51 : decode cX5_is 51 = .ok (.iload_n 3, 1) := dk_29 (dk_at dksX5_is_2 3 rfl rfl)
theorem dX5_is_52 : decode cX5_is 52 = .ok (.invokevirtual 49, 3) := dk_182 0 49 (dk_at dksX5_is_2 4 rfl rfl)
theorem dX5_is_55 : decode cX5_is 55 = .ok (.if_icmp .ne 7, 3) := dk_160 0 7 (dk_at dksX5_is_2 7 rfl rfl)
theorem dX5_is_58 : decode cX5_is 58 = .ok (.iconst 1, 1) := dk_4 (dk_at dksX5_is_2 10 rfl rfl)
theorem dX5_is_59 : decode cX5_is 59 = .ok (.goto 4, 3) := dk_167 0 4 (dk_at dksX5_is_2 11 rfl rfl)
theorem dX5_is_62 : decode cX5_is 62 = .ok (.iconst 0, 1) := dk_3 (dk_at dksX5_is_2 14 rfl rfl)
theorem dX5_is_63 : decode cX5_is 63 = .ok (.istore_n 2, 1) := dk_61 (dk_at dksX5_is_2 15 rfl rfl)
theorem dX5_is_64 : decode cX5_is 64 = .ok (.iinc 3 1, 3) := dk_132 3 1 (dk_at dksX5_is_2 16 rfl rfl)
theorem dX5_is_67 : decode cX5_is 67 = .ok (.goto (-43), 3) := dk_167 255 213 (dk_at dksX5_is_2 19 rfl rfl)
theorem dX5_is_70 : decode cX5_is 70 = .ok (.iload_n 2, 1) := dk_28 (dk_at dksX5_is_2 22 rfl rfl)
theorem dX5_is_71 : decode cX5_is 71 = .ok (.ireturn, 1) := dk_172 (dk_at dksX5_is_2 23 rfl rfl)
abbrev cX5_asked : ByteArray := prog_17_method_6_code
def yX5_asked : MethodName := ⟨RX5, "asked", "()I"⟩
def dkwX5_asked_6 : List UInt8 := [17, 0, 190, 172, 42, 18, 79, 182, 0, 55, 153, 0, 9, 17, 0, 191, 167, 0, 4, 4, 172]
abbrev dktX5_asked_6 : List UInt8 := dkwX5_asked_6 ++ []
def dkwX5_asked_5 : List UInt8 := [172, 42, 18, 75, 182, 0, 55, 153, 0, 7, 17, 0, 189, 172, 42, 18, 77, 182, 0, 55, 153, 0, 7]
abbrev dktX5_asked_5 : List UInt8 := dkwX5_asked_5 ++ dktX5_asked_6
def dkwX5_asked_4 : List UInt8 := [18, 71, 182, 0, 55, 153, 0, 7, 17, 0, 187, 172, 42, 18, 73, 182, 0, 55, 153, 0, 7, 17, 0, 188]
abbrev dktX5_asked_4 : List UInt8 := dkwX5_asked_4 ++ dktX5_asked_5
def dkwX5_asked_3 : List UInt8 := [182, 0, 55, 153, 0, 7, 17, 0, 185, 172, 42, 18, 69, 182, 0, 55, 153, 0, 7, 17, 0, 186, 172, 42]
abbrev dktX5_asked_3 : List UInt8 := dkwX5_asked_3 ++ dktX5_asked_4
def dkwX5_asked_2 : List UInt8 := [153, 0, 7, 17, 0, 183, 172, 42, 18, 65, 182, 0, 55, 153, 0, 7, 17, 0, 184, 172, 42, 18, 67]
abbrev dktX5_asked_2 : List UInt8 := dkwX5_asked_2 ++ dktX5_asked_3
def dkwX5_asked_1 : List UInt8 := [17, 0, 181, 172, 42, 18, 61, 182, 0, 55, 153, 0, 7, 17, 0, 182, 172, 42, 18, 63, 182, 0, 55]
abbrev dktX5_asked_1 : List UInt8 := dkwX5_asked_1 ++ dktX5_asked_2
def dkwX5_asked_0 : List UInt8 := [42, 18, 53, 182, 0, 55, 153, 0, 7, 17, 0, 180, 172, 42, 18, 59, 182, 0, 55, 153, 0, 7]
abbrev dktX5_asked_0 : List UInt8 := dkwX5_asked_0 ++ dktX5_asked_1
theorem dksX5_asked_0 : cX5_asked.data.toList.drop 0 = dktX5_asked_0 := by decide +kernel
theorem dksX5_asked_1 : cX5_asked.data.toList.drop 22 = dktX5_asked_1 := dk_seg dksX5_asked_0 22 rfl rfl
theorem dksX5_asked_2 : cX5_asked.data.toList.drop 45 = dktX5_asked_2 := dk_seg dksX5_asked_1 23 rfl rfl
theorem dksX5_asked_3 : cX5_asked.data.toList.drop 68 = dktX5_asked_3 := dk_seg dksX5_asked_2 23 rfl rfl
theorem dksX5_asked_4 : cX5_asked.data.toList.drop 92 = dktX5_asked_4 := dk_seg dksX5_asked_3 24 rfl rfl
theorem dksX5_asked_5 : cX5_asked.data.toList.drop 116 = dktX5_asked_5 := dk_seg dksX5_asked_4 24 rfl rfl
theorem dksX5_asked_6 : cX5_asked.data.toList.drop 139 = dktX5_asked_6 := dk_seg dksX5_asked_5 23 rfl rfl
theorem dX5_asked_0 : decode cX5_asked 0 = .ok (.aload_n 0, 1) := dk_42 (dk_at dksX5_asked_0 0 rfl rfl)
theorem dX5_asked_1 : decode cX5_asked 1 = .ok (.ldc 53, 2) := dk_18 53 (dk_at dksX5_asked_0 1 rfl rfl)
theorem dX5_asked_3 : decode cX5_asked 3 = .ok (.invokevirtual 55, 3) := dk_182 0 55 (dk_at dksX5_asked_0 3 rfl rfl)
theorem dX5_asked_6 : decode cX5_asked 6 = .ok (.ifCond .eq 7, 3) := dk_153 0 7 (dk_at dksX5_asked_0 6 rfl rfl)
theorem dX5_asked_9 : decode cX5_asked 9 = .ok (.sipush 180, 3) := dk_17 0 180 (dk_at dksX5_asked_0 9 rfl rfl)
theorem dX5_asked_12 : decode cX5_asked 12 = .ok (.ireturn, 1) := dk_172 (dk_at dksX5_asked_0 12 rfl rfl)
theorem dX5_asked_13 : decode cX5_asked 13 = .ok (.aload_n 0, 1) := dk_42 (dk_at dksX5_asked_0 13 rfl rfl)
theorem dX5_asked_14 : decode cX5_asked 14 = .ok (.ldc 59, 2) := dk_18 59 (dk_at dksX5_asked_0 14 rfl rfl)
theorem dX5_asked_16 : decode cX5_asked 16 = .ok (.invokevirtual 55, 3) := dk_182 0 55 (dk_at dksX5_asked_0 16 rfl rfl)
theorem dX5_asked_19 : decode cX5_asked 19 = .ok (.ifCond .eq 7, 3) := dk_153 0 7 (dk_at dksX5_asked_0 19 rfl rfl)
theorem dX5_asked_22 : decode cX5_asked 22 = .ok (.sipush 181, 3) := dk_17 0 181 (dk_at dksX5_asked_1 0 rfl rfl)
theorem dX5_asked_25 : decode cX5_asked 25 = .ok (.ireturn, 1) := dk_172 (dk_at dksX5_asked_1 3 rfl rfl)
theorem dX5_asked_26 : decode cX5_asked 26 = .ok (.aload_n 0, 1) := dk_42 (dk_at dksX5_asked_1 4 rfl rfl)
theorem dX5_asked_27 : decode cX5_asked 27 = .ok (.ldc 61, 2) := dk_18 61 (dk_at dksX5_asked_1 5 rfl rfl)
theorem dX5_asked_29 : decode cX5_asked 29 = .ok (.invokevirtual 55, 3) := dk_182 0 55 (dk_at dksX5_asked_1 7 rfl rfl)
theorem dX5_asked_32 : decode cX5_asked 32 = .ok (.ifCond .eq 7, 3) := dk_153 0 7 (dk_at dksX5_asked_1 10 rfl rfl)
theorem dX5_asked_35 : decode cX5_asked 35 = .ok (.sipush 182, 3) := dk_17 0 182 (dk_at dksX5_asked_1 13 rfl rfl)
theorem dX5_asked_38 : decode cX5_asked 38 = .ok (.ireturn, 1) := dk_172 (dk_at dksX5_asked_1 16 rfl rfl)
theorem dX5_asked_39 : decode cX5_asked 39 = .ok (.aload_n 0, 1) := dk_42 (dk_at dksX5_asked_1 17 rfl rfl)
theorem dX5_asked_40 : decode cX5_asked 40 = .ok (.ldc 63, 2) := dk_18 63 (dk_at dksX5_asked_1 18 rfl rfl)
theorem dX5_asked_42 : decode cX5_asked 42 = .ok (.invokevirtual 55, 3) := dk_182 0 55 (dk_at dksX5_asked_1 20 rfl rfl)
theorem dX5_asked_45 : decode cX5_asked 45 = .ok (.ifCond .eq 7, 3) := dk_153 0 7 (dk_at dksX5_asked_2 0 rfl rfl)
theorem dX5_asked_48 : decode cX5_asked 48 = .ok (.sipush 183, 3) := dk_17 0 183 (dk_at dksX5_asked_2 3 rfl rfl)
theorem dX5_asked_51 : decode cX5_asked 51 = .ok (.ireturn, 1) := dk_172 (dk_at dksX5_asked_2 6 rfl rfl)
theorem dX5_asked_52 : decode cX5_asked 52 = .ok (.aload_n 0, 1) := dk_42 (dk_at dksX5_asked_2 7 rfl rfl)
theorem dX5_asked_53 : decode cX5_asked 53 = .ok (.ldc 65, 2) := dk_18 65 (dk_at dksX5_asked_2 8 rfl rfl)
theorem dX5_asked_55 : decode cX5_asked 55 = .ok (.invokevirtual 55, 3) := dk_182 0 55 (dk_at dksX5_asked_2 10 rfl rfl)
theorem dX5_asked_58 : decode cX5_asked 58 = .ok (.ifCond .eq 7, 3) := dk_153 0 7 (dk_at dksX5_asked_2 13 rfl rfl)
theorem dX5_asked_61 : decode cX5_asked 61 = .ok (.sipush 184, 3) := dk_17 0 184 (dk_at dksX5_asked_2 16 rfl rfl)
theorem dX5_asked_64 : decode cX5_asked 64 = .ok (.ireturn, 1) := dk_172 (dk_at dksX5_asked_2 19 rfl rfl)
theorem dX5_asked_65 : decode cX5_asked 65 = .ok (.aload_n 0, 1) := dk_42 (dk_at dksX5_asked_2 20 rfl rfl)
theorem dX5_asked_66 : decode cX5_asked 66 = .ok (.ldc 67, 2) := dk_18 67 (dk_at dksX5_asked_2 21 rfl rfl)
theorem dX5_asked_68 : decode cX5_asked 68 = .ok (.invokevirtual 55, 3) := dk_182 0 55 (dk_at dksX5_asked_3 0 rfl rfl)
theorem dX5_asked_71 : decode cX5_asked 71 = .ok (.ifCond .eq 7, 3) := dk_153 0 7 (dk_at dksX5_asked_3 3 rfl rfl)
theorem dX5_asked_74 : decode cX5_asked 74 = .ok (.sipush 185, 3) := dk_17 0 185 (dk_at dksX5_asked_3 6 rfl rfl)
theorem dX5_asked_77 : decode cX5_asked 77 = .ok (.ireturn, 1) := dk_172 (dk_at dksX5_asked_3 9 rfl rfl)
theorem dX5_asked_78 : decode cX5_asked 78 = .ok (.aload_n 0, 1) := dk_42 (dk_at dksX5_asked_3 10 rfl rfl)
theorem dX5_asked_79 : decode cX5_asked 79 = .ok (.ldc 69, 2) := dk_18 69 (dk_at dksX5_asked_3 11 rfl rfl)
theorem dX5_asked_81 : decode cX5_asked 81 = .ok (.invokevirtual 55, 3) := dk_182 0 55 (dk_at dksX5_asked_3 13 rfl rfl)
theorem dX5_asked_84 : decode cX5_asked 84 = .ok (.ifCond .eq 7, 3) := dk_153 0 7 (dk_at dksX5_asked_3 16 rfl rfl)
theorem dX5_asked_87 : decode cX5_asked 87 = .ok (.sipush 186, 3) := dk_17 0 186 (dk_at dksX5_asked_3 19 rfl rfl)
theorem dX5_asked_90 : decode cX5_asked 90 = .ok (.ireturn, 1) := dk_172 (dk_at dksX5_asked_3 22 rfl rfl)
theorem dX5_asked_91 : decode cX5_asked 91 = .ok (.aload_n 0, 1) := dk_42 (dk_at dksX5_asked_3 23 rfl rfl)
theorem dX5_asked_92 : decode cX5_asked 92 = .ok (.ldc 71, 2) := dk_18 71 (dk_at dksX5_asked_4 0 rfl rfl)
theorem dX5_asked_94 : decode cX5_asked 94 = .ok (.invokevirtual 55, 3) := dk_182 0 55 (dk_at dksX5_asked_4 2 rfl rfl)
theorem dX5_asked_97 : decode cX5_asked 97 = .ok (.ifCond .eq 7, 3) := dk_153 0 7 (dk_at dksX5_asked_4 5 rfl rfl)
theorem dX5_asked_100 : decode cX5_asked 100 = .ok (.sipush 187, 3) := dk_17 0 187 (dk_at dksX5_asked_4 8 rfl rfl)
theorem dX5_asked_103 : decode cX5_asked 103 = .ok (.ireturn, 1) := dk_172 (dk_at dksX5_asked_4 11 rfl rfl)
theorem dX5_asked_104 : decode cX5_asked 104 = .ok (.aload_n 0, 1) := dk_42 (dk_at dksX5_asked_4 12 rfl rfl)
theorem dX5_asked_105 : decode cX5_asked 105 = .ok (.ldc 73, 2) := dk_18 73 (dk_at dksX5_asked_4 13 rfl rfl)
theorem dX5_asked_107 : decode cX5_asked 107 = .ok (.invokevirtual 55, 3) := dk_182 0 55 (dk_at dksX5_asked_4 15 rfl rfl)
theorem dX5_asked_110 : decode cX5_asked 110 = .ok (.ifCond .eq 7, 3) := dk_153 0 7 (dk_at dksX5_asked_4 18 rfl rfl)
theorem dX5_asked_113 : decode cX5_asked 113 = .ok (.sipush 188, 3) := dk_17 0 188 (dk_at dksX5_asked_4 21 rfl rfl)
theorem dX5_asked_116 : decode cX5_asked 116 = .ok (.ireturn, 1) := dk_172 (dk_at dksX5_asked_5 0 rfl rfl)
theorem dX5_asked_117 : decode cX5_asked 117 = .ok (.aload_n 0, 1) := dk_42 (dk_at dksX5_asked_5 1 rfl rfl)
theorem dX5_asked_118 : decode cX5_asked 118 = .ok (.ldc 75, 2) := dk_18 75 (dk_at dksX5_asked_5 2 rfl rfl)
theorem dX5_asked_120 : decode cX5_asked 120 = .ok (.invokevirtual 55, 3) := dk_182 0 55 (dk_at dksX5_asked_5 4 rfl rfl)
theorem dX5_asked_123 : decode cX5_asked 123 = .ok (.ifCond .eq 7, 3) := dk_153 0 7 (dk_at dksX5_asked_5 7 rfl rfl)
theorem dX5_asked_126 : decode cX5_asked 126 = .ok (.sipush 189, 3) := dk_17 0 189 (dk_at dksX5_asked_5 10 rfl rfl)
theorem dX5_asked_129 : decode cX5_asked 129 = .ok (.ireturn, 1) := dk_172 (dk_at dksX5_asked_5 13 rfl rfl)
theorem dX5_asked_130 : decode cX5_asked 130 = .ok (.aload_n 0, 1) := dk_42 (dk_at dksX5_asked_5 14 rfl rfl)
theorem dX5_asked_131 : decode cX5_asked 131 = .ok (.ldc 77, 2) := dk_18 77 (dk_at dksX5_asked_5 15 rfl rfl)
theorem dX5_asked_133 : decode cX5_asked 133 = .ok (.invokevirtual 55, 3) := dk_182 0 55 (dk_at dksX5_asked_5 17 rfl rfl)
theorem dX5_asked_136 : decode cX5_asked 136 = .ok (.ifCond .eq 7, 3) := dk_153 0 7 (dk_at dksX5_asked_5 20 rfl rfl)
theorem dX5_asked_139 : decode cX5_asked 139 = .ok (.sipush 190, 3) := dk_17 0 190 (dk_at dksX5_asked_6 0 rfl rfl)
theorem dX5_asked_142 : decode cX5_asked 142 = .ok (.ireturn, 1) := dk_172 (dk_at dksX5_asked_6 3 rfl rfl)
theorem dX5_asked_143 : decode cX5_asked 143 = .ok (.aload_n 0, 1) := dk_42 (dk_at dksX5_asked_6 4 rfl rfl)
theorem dX5_asked_144 : decode cX5_asked 144 = .ok (.ldc 79, 2) := dk_18 79 (dk_at dksX5_asked_6 5 rfl rfl)
theorem dX5_asked_146 : decode cX5_asked 146 = .ok (.invokevirtual 55, 3) := dk_182 0 55 (dk_at dksX5_asked_6 7 rfl rfl)
theorem dX5_asked_149 : decode cX5_asked 149 = .ok (.ifCond .eq 9, 3) := dk_153 0 9 (dk_at dksX5_asked_6 10 rfl rfl)
theorem dX5_asked_152 : decode cX5_asked 152 = .ok (.sipush 191, 3) := dk_17 0 191 (dk_at dksX5_asked_6 13 rfl rfl)
theorem dX5_asked_155 : decode cX5_asked 155 = .ok (.goto 4, 3) := dk_167 0 4 (dk_at dksX5_asked_6 16 rfl rfl)
theorem dX5_asked_158 : decode cX5_asked 158 = .ok (.iconst 1, 1) := dk_4 (dk_at dksX5_asked_6 19 rfl rfl)
theorem dX5_asked_159 : decode cX5_asked 159 = .ok (.ireturn, 1) := dk_172 (dk_at dksX5_asked_6 20 rfl rfl)
abbrev cX5_officeWord : ByteArray := prog_17_method_8_code
def yX5_officeWord : MethodName := ⟨RX5, "officeWord", "()I"⟩
def dkwX5_officeWord_2 : List UInt8 := [42, 18, 106, 182, 0, 55, 153, 0, 8, 16, 17, 167, 0, 4, 4, 172]
abbrev dktX5_officeWord_2 : List UInt8 := dkwX5_officeWord_2 ++ []
def dkwX5_officeWord_1 : List UInt8 := [42, 18, 102, 182, 0, 55, 153, 0, 6, 16, 15, 172, 42, 18, 104, 182, 0, 55, 153, 0, 6, 16, 16, 172]
abbrev dktX5_officeWord_1 : List UInt8 := dkwX5_officeWord_1 ++ dktX5_officeWord_2
def dkwX5_officeWord_0 : List UInt8 := [42, 18, 98, 182, 0, 55, 153, 0, 6, 16, 10, 172, 42, 18, 100, 182, 0, 55, 153, 0, 6, 16, 14, 172]
abbrev dktX5_officeWord_0 : List UInt8 := dkwX5_officeWord_0 ++ dktX5_officeWord_1
theorem dksX5_officeWord_0 : cX5_officeWord.data.toList.drop 0 = dktX5_officeWord_0 := by decide +kernel
theorem dksX5_officeWord_1 : cX5_officeWord.data.toList.drop 24 = dktX5_officeWord_1 := dk_seg dksX5_officeWord_0 24 rfl rfl
theorem dksX5_officeWord_2 : cX5_officeWord.data.toList.drop 48 = dktX5_officeWord_2 := dk_seg dksX5_officeWord_1 24 rfl rfl
theorem dX5_officeWord_0 : decode cX5_officeWord 0 = .ok (.aload_n 0, 1) := dk_42 (dk_at dksX5_officeWord_0 0 rfl rfl)
theorem dX5_officeWord_1 : decode cX5_officeWord 1 = .ok (.ldc 98, 2) := dk_18 98 (dk_at dksX5_officeWord_0 1 rfl rfl)
theorem dX5_officeWord_3 : decode cX5_officeWord 3 = .ok (.invokevirtual 55, 3) := dk_182 0 55 (dk_at dksX5_officeWord_0 3 rfl rfl)
theorem dX5_officeWord_6 : decode cX5_officeWord 6 = .ok (.ifCond .eq 6, 3) := dk_153 0 6 (dk_at dksX5_officeWord_0 6 rfl rfl)
theorem dX5_officeWord_9 : decode cX5_officeWord 9 = .ok (.bipush 10, 2) := dk_16 10 (dk_at dksX5_officeWord_0 9 rfl rfl)
theorem dX5_officeWord_11 : decode cX5_officeWord 11 = .ok (.ireturn, 1) := dk_172 (dk_at dksX5_officeWord_0 11 rfl rfl)
theorem dX5_officeWord_12 : decode cX5_officeWord 12 = .ok (.aload_n 0, 1) := dk_42 (dk_at dksX5_officeWord_0 12 rfl rfl)
theorem dX5_officeWord_13 : decode cX5_officeWord 13 = .ok (.ldc 100, 2) := dk_18 100 (dk_at dksX5_officeWord_0 13 rfl rfl)
theorem dX5_officeWord_15 : decode cX5_officeWord 15 = .ok (.invokevirtual 55, 3) := dk_182 0 55 (dk_at dksX5_officeWord_0 15 rfl rfl)
theorem dX5_officeWord_18 : decode cX5_officeWord 18 = .ok (.ifCond .eq 6, 3) := dk_153 0 6 (dk_at dksX5_officeWord_0 18 rfl rfl)
theorem dX5_officeWord_21 : decode cX5_officeWord 21 = .ok (.bipush 14, 2) := dk_16 14 (dk_at dksX5_officeWord_0 21 rfl rfl)
theorem dX5_officeWord_23 : decode cX5_officeWord 23 = .ok (.ireturn, 1) := dk_172 (dk_at dksX5_officeWord_0 23 rfl rfl)
theorem dX5_officeWord_24 : decode cX5_officeWord 24 = .ok (.aload_n 0, 1) := dk_42 (dk_at dksX5_officeWord_1 0 rfl rfl)
theorem dX5_officeWord_25 : decode cX5_officeWord 25 = .ok (.ldc 102, 2) := dk_18 102 (dk_at dksX5_officeWord_1 1 rfl rfl)
theorem dX5_officeWord_27 : decode cX5_officeWord 27 = .ok (.invokevirtual 55, 3) := dk_182 0 55 (dk_at dksX5_officeWord_1 3 rfl rfl)
theorem dX5_officeWord_30 : decode cX5_officeWord 30 = .ok (.ifCond .eq 6, 3) := dk_153 0 6 (dk_at dksX5_officeWord_1 6 rfl rfl)
theorem dX5_officeWord_33 : decode cX5_officeWord 33 = .ok (.bipush 15, 2) := dk_16 15 (dk_at dksX5_officeWord_1 9 rfl rfl)
theorem dX5_officeWord_35 : decode cX5_officeWord 35 = .ok (.ireturn, 1) := dk_172 (dk_at dksX5_officeWord_1 11 rfl rfl)
theorem dX5_officeWord_36 : decode cX5_officeWord 36 = .ok (.aload_n 0, 1) := dk_42 (dk_at dksX5_officeWord_1 12 rfl rfl)
theorem dX5_officeWord_37 : decode cX5_officeWord 37 = .ok (.ldc 104, 2) := dk_18 104 (dk_at dksX5_officeWord_1 13 rfl rfl)
theorem dX5_officeWord_39 : decode cX5_officeWord 39 = .ok (.invokevirtual 55, 3) := dk_182 0 55 (dk_at dksX5_officeWord_1 15 rfl rfl)
theorem dX5_officeWord_42 : decode cX5_officeWord 42 = .ok (.ifCond .eq 6, 3) := dk_153 0 6 (dk_at dksX5_officeWord_1 18 rfl rfl)
theorem dX5_officeWord_45 : decode cX5_officeWord 45 = .ok (.bipush 16, 2) := dk_16 16 (dk_at dksX5_officeWord_1 21 rfl rfl)
theorem dX5_officeWord_47 : decode cX5_officeWord 47 = .ok (.ireturn, 1) := dk_172 (dk_at dksX5_officeWord_1 23 rfl rfl)
theorem dX5_officeWord_48 : decode cX5_officeWord 48 = .ok (.aload_n 0, 1) := dk_42 (dk_at dksX5_officeWord_2 0 rfl rfl)
theorem dX5_officeWord_49 : decode cX5_officeWord 49 = .ok (.ldc 106, 2) := dk_18 106 (dk_at dksX5_officeWord_2 1 rfl rfl)
theorem dX5_officeWord_51 : decode cX5_officeWord 51 = .ok (.invokevirtual 55, 3) := dk_182 0 55 (dk_at dksX5_officeWord_2 3 rfl rfl)
theorem dX5_officeWord_54 : decode cX5_officeWord 54 = .ok (.ifCond .eq 8, 3) := dk_153 0 8 (dk_at dksX5_officeWord_2 6 rfl rfl)
theorem dX5_officeWord_57 : decode cX5_officeWord 57 = .ok (.bipush 17, 2) := dk_16 17 (dk_at dksX5_officeWord_2 9 rfl rfl)
theorem dX5_officeWord_59 : decode cX5_officeWord 59 = .ok (.goto 4, 3) := dk_167 0 4 (dk_at dksX5_officeWord_2 11 rfl rfl)
theorem dX5_officeWord_62 : decode cX5_officeWord 62 = .ok (.iconst 1, 1) := dk_4 (dk_at dksX5_officeWord_2 14 rfl rfl)
theorem dX5_officeWord_63 : decode cX5_officeWord 63 = .ok (.ireturn, 1) := dk_172 (dk_at dksX5_officeWord_2 15 rfl rfl)
abbrev cX5_isDigit : ByteArray := prog_17_method_4_code
def yX5_isDigit : MethodName := ⟨RX5, "isDigit", "()Z"⟩
def dkwX5_isDigit_0 : List UInt8 := [42, 182, 0, 33, 16, 48, 16, 57, 184, 0, 37, 172]
abbrev dktX5_isDigit_0 : List UInt8 := dkwX5_isDigit_0 ++ []
theorem dksX5_isDigit_0 : cX5_isDigit.data.toList.drop 0 = dktX5_isDigit_0 := by decide +kernel
theorem dX5_isDigit_0 : decode cX5_isDigit 0 = .ok (.aload_n 0, 1) := dk_42 (dk_at dksX5_isDigit_0 0 rfl rfl)
theorem dX5_isDigit_1 : decode cX5_isDigit 1 = .ok (.invokevirtual 33, 3) := dk_182 0 33 (dk_at dksX5_isDigit_0 1 rfl rfl)
theorem dX5_isDigit_4 : decode cX5_isDigit 4 = .ok (.bipush 48, 2) := dk_16 48 (dk_at dksX5_isDigit_0 4 rfl rfl)
theorem dX5_isDigit_6 : decode cX5_isDigit 6 = .ok (.bipush 57, 2) := dk_16 57 (dk_at dksX5_isDigit_0 6 rfl rfl)
theorem dX5_isDigit_8 : decode cX5_isDigit 8 = .ok (.invokestatic 37, 3) := dk_184 0 37 (dk_at dksX5_isDigit_0 8 rfl rfl)
theorem dX5_isDigit_11 : decode cX5_isDigit 11 = .ok (.ireturn, 1) := dk_172 (dk_at dksX5_isDigit_0 11 rfl rfl)
abbrev cX5_isMark : ByteArray := prog_17_method_12_code
def yX5_isMark : MethodName := ⟨RX5, "isMark", "(I)Z"⟩
def dkwX5_isMark_2 : List UInt8 := [27, 16, 61, 159, 0, 9, 27, 16, 62, 160, 0, 7, 4, 167, 0, 4, 3, 172]
abbrev dktX5_isMark_2 : List UInt8 := dkwX5_isMark_2 ++ []
def dkwX5_isMark_1 : List UInt8 := [27, 16, 47, 159, 0, 33, 27, 16, 40, 159, 0, 27, 27, 16, 41, 159, 0, 21, 27, 16, 60, 159, 0, 15]
abbrev dktX5_isMark_1 : List UInt8 := dkwX5_isMark_1 ++ dktX5_isMark_2
def dkwX5_isMark_0 : List UInt8 := [27, 16, 59, 159, 0, 57, 27, 16, 43, 159, 0, 51, 27, 16, 45, 159, 0, 45, 27, 16, 42, 159, 0, 39]
abbrev dktX5_isMark_0 : List UInt8 := dkwX5_isMark_0 ++ dktX5_isMark_1
theorem dksX5_isMark_0 : cX5_isMark.data.toList.drop 0 = dktX5_isMark_0 := by decide +kernel
theorem dksX5_isMark_1 : cX5_isMark.data.toList.drop 24 = dktX5_isMark_1 := dk_seg dksX5_isMark_0 24 rfl rfl
theorem dksX5_isMark_2 : cX5_isMark.data.toList.drop 48 = dktX5_isMark_2 := dk_seg dksX5_isMark_1 24 rfl rfl
theorem dX5_isMark_0 : decode cX5_isMark 0 = .ok (.iload_n 1, 1) := dk_27 (dk_at dksX5_isMark_0 0 rfl rfl)
theorem dX5_isMark_1 : decode cX5_isMark 1 = .ok (.bipush 59, 2) := dk_16 59 (dk_at dksX5_isMark_0 1 rfl rfl)
theorem dX5_isMark_3 : decode cX5_isMark 3 = .ok (.if_icmp .eq 57, 3) := dk_159 0 57 (dk_at dksX5_isMark_0 3 rfl rfl)
theorem dX5_isMark_6 : decode cX5_isMark 6 = .ok (.iload_n 1, 1) := dk_27 (dk_at dksX5_isMark_0 6 rfl rfl)
theorem dX5_isMark_7 : decode cX5_isMark 7 = .ok (.bipush 43, 2) := dk_16 43 (dk_at dksX5_isMark_0 7 rfl rfl)
theorem dX5_isMark_9 : decode cX5_isMark 9 = .ok (.if_icmp .eq 51, 3) := dk_159 0 51 (dk_at dksX5_isMark_0 9 rfl rfl)
theorem dX5_isMark_12 : decode cX5_isMark 12 = .ok (.iload_n 1, 1) := dk_27 (dk_at dksX5_isMark_0 12 rfl rfl)
theorem dX5_isMark_13 : decode cX5_isMark 13 = .ok (.bipush 45, 2) := dk_16 45 (dk_at dksX5_isMark_0 13 rfl rfl)
theorem dX5_isMark_15 : decode cX5_isMark 15 = .ok (.if_icmp .eq 45, 3) := dk_159 0 45 (dk_at dksX5_isMark_0 15 rfl rfl)
theorem dX5_isMark_18 : decode cX5_isMark 18 = .ok (.iload_n 1, 1) := dk_27 (dk_at dksX5_isMark_0 18 rfl rfl)
theorem dX5_isMark_19 : decode cX5_isMark 19 = .ok (.bipush 42, 2) := dk_16 42 (dk_at dksX5_isMark_0 19 rfl rfl)
theorem dX5_isMark_21 : decode cX5_isMark 21 = .ok (.if_icmp .eq 39, 3) := dk_159 0 39 (dk_at dksX5_isMark_0 21 rfl rfl)
theorem dX5_isMark_24 : decode cX5_isMark 24 = .ok (.iload_n 1, 1) := dk_27 (dk_at dksX5_isMark_1 0 rfl rfl)
theorem dX5_isMark_25 : decode cX5_isMark 25 = .ok (.bipush 47, 2) := dk_16 47 (dk_at dksX5_isMark_1 1 rfl rfl)
theorem dX5_isMark_27 : decode cX5_isMark 27 = .ok (.if_icmp .eq 33, 3) := dk_159 0 33 (dk_at dksX5_isMark_1 3 rfl rfl)
theorem dX5_isMark_30 : decode cX5_isMark 30 = .ok (.iload_n 1, 1) := dk_27 (dk_at dksX5_isMark_1 6 rfl rfl)
theorem dX5_isMark_31 : decode cX5_isMark 31 = .ok (.bipush 40, 2) := dk_16 40 (dk_at dksX5_isMark_1 7 rfl rfl)
theorem dX5_isMark_33 : decode cX5_isMark 33 = .ok (.if_icmp .eq 27, 3) := dk_159 0 27 (dk_at dksX5_isMark_1 9 rfl rfl)
theorem dX5_isMark_36 : decode cX5_isMark 36 = .ok (.iload_n 1, 1) := dk_27 (dk_at dksX5_isMark_1 12 rfl rfl)
theorem dX5_isMark_37 : decode cX5_isMark 37 = .ok (.bipush 41, 2) := dk_16 41 (dk_at dksX5_isMark_1 13 rfl rfl)
theorem dX5_isMark_39 : decode cX5_isMark 39 = .ok (.if_icmp .eq 21, 3) := dk_159 0 21 (dk_at dksX5_isMark_1 15 rfl rfl)
theorem dX5_isMark_42 : decode cX5_isMark 42 = .ok (.iload_n 1, 1) := dk_27 (dk_at dksX5_isMark_1 18 rfl rfl)
theorem dX5_isMark_43 : decode cX5_isMark 43 = .ok (.bipush 60, 2) := dk_16 60 (dk_at dksX5_isMark_1 19 rfl rfl)
theorem dX5_isMark_45 : decode cX5_isMark 45 = .ok (.if_icmp .eq 15, 3) := dk_159 0 15 (dk_at dksX5_isMark_1 21 rfl rfl)
theorem dX5_isMark_48 : decode cX5_isMark 48 = .ok (.iload_n 1, 1) := dk_27 (dk_at dksX5_isMark_2 0 rfl rfl)
theorem dX5_isMark_49 : decode cX5_isMark 49 = .ok (.bipush 61, 2) := dk_16 61 (dk_at dksX5_isMark_2 1 rfl rfl)
theorem dX5_isMark_51 : decode cX5_isMark 51 = .ok (.if_icmp .eq 9, 3) := dk_159 0 9 (dk_at dksX5_isMark_2 3 rfl rfl)
theorem dX5_isMark_54 : decode cX5_isMark 54 = .ok (.iload_n 1, 1) := dk_27 (dk_at dksX5_isMark_2 6 rfl rfl)
theorem dX5_isMark_55 : decode cX5_isMark 55 = .ok (.bipush 62, 2) := dk_16 62 (dk_at dksX5_isMark_2 7 rfl rfl)
theorem dX5_isMark_57 : decode cX5_isMark 57 = .ok (.if_icmp .ne 7, 3) := dk_160 0 7 (dk_at dksX5_isMark_2 9 rfl rfl)
theorem dX5_isMark_60 : decode cX5_isMark 60 = .ok (.iconst 1, 1) := dk_4 (dk_at dksX5_isMark_2 12 rfl rfl)
theorem dX5_isMark_61 : decode cX5_isMark 61 = .ok (.goto 4, 3) := dk_167 0 4 (dk_at dksX5_isMark_2 13 rfl rfl)
theorem dX5_isMark_64 : decode cX5_isMark 64 = .ok (.iconst 0, 1) := dk_3 (dk_at dksX5_isMark_2 16 rfl rfl)
theorem dX5_isMark_65 : decode cX5_isMark 65 = .ok (.ireturn, 1) := dk_172 (dk_at dksX5_isMark_2 17 rfl rfl)
abbrev cX5_sum : ByteArray := prog_17_method_16_code
def yX5_sum : MethodName := ⟨RX5, "sum", "()LGingerRents$Term;"⟩
def dkwX5_sum_2 : List UInt8 := [167, 255, 215, 43, 176]
abbrev dktX5_sum_2 : List UInt8 := dkwX5_sum_2 ++ []
def dkwX5_sum_1 : List UInt8 := [180, 0, 120, 61, 42, 182, 0, 131, 187, 0, 167, 89, 43, 28, 42, 182, 0, 163, 183, 0, 169, 76]
abbrev dktX5_sum_1 : List UInt8 := dkwX5_sum_1 ++ dktX5_sum_2
def dkwX5_sum_0 : List UInt8 := [42, 182, 0, 163, 76, 42, 180, 0, 120, 16, 43, 159, 0, 12, 42, 180, 0, 120, 16, 45, 160, 0, 29, 42]
abbrev dktX5_sum_0 : List UInt8 := dkwX5_sum_0 ++ dktX5_sum_1
theorem dksX5_sum_0 : cX5_sum.data.toList.drop 0 = dktX5_sum_0 := by decide +kernel
theorem dksX5_sum_1 : cX5_sum.data.toList.drop 24 = dktX5_sum_1 := dk_seg dksX5_sum_0 24 rfl rfl
theorem dksX5_sum_2 : cX5_sum.data.toList.drop 46 = dktX5_sum_2 := dk_seg dksX5_sum_1 22 rfl rfl
theorem dX5_sum_0 : decode cX5_sum 0 = .ok (.aload_n 0, 1) := dk_42 (dk_at dksX5_sum_0 0 rfl rfl)
theorem dX5_sum_1 : decode cX5_sum 1 = .ok (.invokevirtual 163, 3) := dk_182 0 163 (dk_at dksX5_sum_0 1 rfl rfl)
theorem dX5_sum_4 : decode cX5_sum 4 = .ok (.astore_n 1, 1) := dk_76 (dk_at dksX5_sum_0 4 rfl rfl)
theorem dX5_sum_5 : decode cX5_sum 5 = .ok (.aload_n 0, 1) := dk_42 (dk_at dksX5_sum_0 5 rfl rfl)
theorem dX5_sum_6 : decode cX5_sum 6 = .ok (.getfield 120, 3) := dk_180 0 120 (dk_at dksX5_sum_0 6 rfl rfl)
theorem dX5_sum_9 : decode cX5_sum 9 = .ok (.bipush 43, 2) := dk_16 43 (dk_at dksX5_sum_0 9 rfl rfl)
theorem dX5_sum_11 : decode cX5_sum 11 = .ok (.if_icmp .eq 12, 3) := dk_159 0 12 (dk_at dksX5_sum_0 11 rfl rfl)
theorem dX5_sum_14 : decode cX5_sum 14 = .ok (.aload_n 0, 1) := dk_42 (dk_at dksX5_sum_0 14 rfl rfl)
theorem dX5_sum_15 : decode cX5_sum 15 = .ok (.getfield 120, 3) := dk_180 0 120 (dk_at dksX5_sum_0 15 rfl rfl)
theorem dX5_sum_18 : decode cX5_sum 18 = .ok (.bipush 45, 2) := dk_16 45 (dk_at dksX5_sum_0 18 rfl rfl)
theorem dX5_sum_20 : decode cX5_sum 20 = .ok (.if_icmp .ne 29, 3) := dk_160 0 29 (dk_at dksX5_sum_0 20 rfl rfl)
theorem dX5_sum_23 : decode cX5_sum 23 = .ok (.aload_n 0, 1) := dk_42 (dk_at dksX5_sum_0 23 rfl rfl)
theorem dX5_sum_24 : decode cX5_sum 24 = .ok (.getfield 120, 3) := dk_180 0 120 (dk_at dksX5_sum_1 0 rfl rfl)
theorem dX5_sum_27 : decode cX5_sum 27 = .ok (.istore_n 2, 1) := dk_61 (dk_at dksX5_sum_1 3 rfl rfl)
theorem dX5_sum_28 : decode cX5_sum 28 = .ok (.aload_n 0, 1) := dk_42 (dk_at dksX5_sum_1 4 rfl rfl)
theorem dX5_sum_29 : decode cX5_sum 29 = .ok (.invokevirtual 131, 3) := dk_182 0 131 (dk_at dksX5_sum_1 5 rfl rfl)
theorem dX5_sum_32 : decode cX5_sum 32 = .ok (.new 167, 3) := dk_187 0 167 (dk_at dksX5_sum_1 8 rfl rfl)
theorem dX5_sum_35 : decode cX5_sum 35 = .ok (.dup, 1) := dk_89 (dk_at dksX5_sum_1 11 rfl rfl)
theorem dX5_sum_36 : decode cX5_sum 36 = .ok (.aload_n 1, 1) := dk_43 (dk_at dksX5_sum_1 12 rfl rfl)
theorem dX5_sum_37 : decode cX5_sum 37 = .ok (.iload_n 2, 1) := dk_28 (dk_at dksX5_sum_1 13 rfl rfl)
theorem dX5_sum_38 : decode cX5_sum 38 = .ok (.aload_n 0, 1) := dk_42 (dk_at dksX5_sum_1 14 rfl rfl)
theorem dX5_sum_39 : decode cX5_sum 39 = .ok (.invokevirtual 163, 3) := dk_182 0 163 (dk_at dksX5_sum_1 15 rfl rfl)
theorem dX5_sum_42 : decode cX5_sum 42 = .ok (.invokespecial 169, 3) := dk_183 0 169 (dk_at dksX5_sum_1 18 rfl rfl)
theorem dX5_sum_45 : decode cX5_sum 45 = .ok (.astore_n 1, 1) := dk_76 (dk_at dksX5_sum_1 21 rfl rfl)
theorem dX5_sum_46 : decode cX5_sum 46 = .ok (.goto (-41), 3) := dk_167 255 215 (dk_at dksX5_sum_2 0 rfl rfl)
theorem dX5_sum_49 : decode cX5_sum 49 = .ok (.aload_n 1, 1) := dk_43 (dk_at dksX5_sum_2 3 rfl rfl)
theorem dX5_sum_50 : decode cX5_sum 50 = .ok (.areturn, 1) := dk_176 (dk_at dksX5_sum_2 4 rfl rfl)
abbrev cX5_product : ByteArray := prog_17_method_17_code
def yX5_product : MethodName := ⟨RX5, "product", "()LGingerRents$Term;"⟩
def dkwX5_product_3 : List UInt8 := [167, 255, 191, 43, 176]
abbrev dktX5_product_3 : List UInt8 := dkwX5_product_3 ++ []
def dkwX5_product_2 : List UInt8 := [42, 4, 17, 39, 15, 182, 0, 142, 183, 0, 177, 167, 0, 7, 42, 182, 0, 172, 183, 0, 169, 76]
abbrev dktX5_product_2 : List UInt8 := dkwX5_product_2 ++ dktX5_product_3
def dkwX5_product_1 : List UInt8 := [180, 0, 120, 61, 42, 182, 0, 131, 187, 0, 167, 89, 43, 28, 28, 16, 47, 160, 0, 21, 187, 0, 175, 89]
abbrev dktX5_product_1 : List UInt8 := dkwX5_product_1 ++ dktX5_product_2
def dkwX5_product_0 : List UInt8 := [42, 182, 0, 172, 76, 42, 180, 0, 120, 16, 42, 159, 0, 12, 42, 180, 0, 120, 16, 47, 160, 0, 53, 42]
abbrev dktX5_product_0 : List UInt8 := dkwX5_product_0 ++ dktX5_product_1
theorem dksX5_product_0 : cX5_product.data.toList.drop 0 = dktX5_product_0 := by decide +kernel
theorem dksX5_product_1 : cX5_product.data.toList.drop 24 = dktX5_product_1 := dk_seg dksX5_product_0 24 rfl rfl
theorem dksX5_product_2 : cX5_product.data.toList.drop 48 = dktX5_product_2 := dk_seg dksX5_product_1 24 rfl rfl
theorem dksX5_product_3 : cX5_product.data.toList.drop 70 = dktX5_product_3 := dk_seg dksX5_product_2 22 rfl rfl
theorem dX5_product_0 : decode cX5_product 0 = .ok (.aload_n 0, 1) := dk_42 (dk_at dksX5_product_0 0 rfl rfl)
theorem dX5_product_1 : decode cX5_product 1 = .ok (.invokevirtual 172, 3) := dk_182 0 172 (dk_at dksX5_product_0 1 rfl rfl)
theorem dX5_product_4 : decode cX5_product 4 = .ok (.astore_n 1, 1) := dk_76 (dk_at dksX5_product_0 4 rfl rfl)
theorem dX5_product_5 : decode cX5_product 5 = .ok (.aload_n 0, 1) := dk_42 (dk_at dksX5_product_0 5 rfl rfl)
theorem dX5_product_6 : decode cX5_product 6 = .ok (.getfield 120, 3) := dk_180 0 120 (dk_at dksX5_product_0 6 rfl rfl)
theorem dX5_product_9 : decode cX5_product 9 = .ok (.bipush 42, 2) := dk_16 42 (dk_at dksX5_product_0 9 rfl rfl)
theorem dX5_product_11 : decode cX5_product 11 = .ok (.if_icmp .eq 12, 3) := dk_159 0 12 (dk_at dksX5_product_0 11 rfl rfl)
theorem dX5_product_14 : decode cX5_product 14 = .ok (.aload_n 0, 1) := dk_42 (dk_at dksX5_product_0 14 rfl rfl)
theorem dX5_product_15 : decode cX5_product 15 = .ok (.getfield 120, 3) := dk_180 0 120 (dk_at dksX5_product_0 15 rfl rfl)
theorem dX5_product_18 : decode cX5_product 18 = .ok (.bipush 47, 2) := dk_16 47 (dk_at dksX5_product_0 18 rfl rfl)
theorem dX5_product_20 : decode cX5_product 20 = .ok (.if_icmp .ne 53, 3) := dk_160 0 53 (dk_at dksX5_product_0 20 rfl rfl)
theorem dX5_product_23 : decode cX5_product 23 = .ok (.aload_n 0, 1) := dk_42 (dk_at dksX5_product_0 23 rfl rfl)
theorem dX5_product_24 : decode cX5_product 24 = .ok (.getfield 120, 3) := dk_180 0 120 (dk_at dksX5_product_1 0 rfl rfl)
theorem dX5_product_27 : decode cX5_product 27 = .ok (.istore_n 2, 1) := dk_61 (dk_at dksX5_product_1 3 rfl rfl)
theorem dX5_product_28 : decode cX5_product 28 = .ok (.aload_n 0, 1) := dk_42 (dk_at dksX5_product_1 4 rfl rfl)
theorem dX5_product_29 : decode cX5_product 29 = .ok (.invokevirtual 131, 3) := dk_182 0 131 (dk_at dksX5_product_1 5 rfl rfl)
theorem dX5_product_32 : decode cX5_product 32 = .ok (.new 167, 3) := dk_187 0 167 (dk_at dksX5_product_1 8 rfl rfl)
theorem dX5_product_35 : decode cX5_product 35 = .ok (.dup, 1) := dk_89 (dk_at dksX5_product_1 11 rfl rfl)
theorem dX5_product_36 : decode cX5_product 36 = .ok (.aload_n 1, 1) := dk_43 (dk_at dksX5_product_1 12 rfl rfl)
theorem dX5_product_37 : decode cX5_product 37 = .ok (.iload_n 2, 1) := dk_28 (dk_at dksX5_product_1 13 rfl rfl)
theorem dX5_product_38 : decode cX5_product 38 = .ok (.iload_n 2, 1) := dk_28 (dk_at dksX5_product_1 14 rfl rfl)
theorem dX5_product_39 : decode cX5_product 39 = .ok (.bipush 47, 2) := dk_16 47 (dk_at dksX5_product_1 15 rfl rfl)
theorem dX5_product_41 : decode cX5_product 41 = .ok (.if_icmp .ne 21, 3) := dk_160 0 21 (dk_at dksX5_product_1 17 rfl rfl)
theorem dX5_product_44 : decode cX5_product 44 = .ok (.new 175, 3) := dk_187 0 175 (dk_at dksX5_product_1 20 rfl rfl)
theorem dX5_product_47 : decode cX5_product 47 = .ok (.dup, 1) := dk_89 (dk_at dksX5_product_1 23 rfl rfl)
theorem dX5_product_48 : decode cX5_product 48 = .ok (.aload_n 0, 1) := dk_42 (dk_at dksX5_product_2 0 rfl rfl)
theorem dX5_product_49 : decode cX5_product 49 = .ok (.iconst 1, 1) := dk_4 (dk_at dksX5_product_2 1 rfl rfl)
theorem dX5_product_50 : decode cX5_product 50 = .ok (.sipush 9999, 3) := dk_17 39 15 (dk_at dksX5_product_2 2 rfl rfl)
theorem dX5_product_53 : decode cX5_product 53 = .ok (.invokevirtual 142, 3) := dk_182 0 142 (dk_at dksX5_product_2 5 rfl rfl)
theorem dX5_product_56 : decode cX5_product 56 = .ok (.invokespecial 177, 3) := dk_183 0 177 (dk_at dksX5_product_2 8 rfl rfl)
theorem dX5_product_59 : decode cX5_product 59 = .ok (.goto 7, 3) := dk_167 0 7 (dk_at dksX5_product_2 11 rfl rfl)
theorem dX5_product_62 : decode cX5_product 62 = .ok (.aload_n 0, 1) := dk_42 (dk_at dksX5_product_2 14 rfl rfl)
theorem dX5_product_63 : decode cX5_product 63 = .ok (.invokevirtual 172, 3) := dk_182 0 172 (dk_at dksX5_product_2 15 rfl rfl)
theorem dX5_product_66 : decode cX5_product 66 = .ok (.invokespecial 169, 3) := dk_183 0 169 (dk_at dksX5_product_2 18 rfl rfl)
theorem dX5_product_69 : decode cX5_product 69 = .ok (.astore_n 1, 1) := dk_76 (dk_at dksX5_product_2 21 rfl rfl)
theorem dX5_product_70 : decode cX5_product 70 = .ok (.goto (-65), 3) := dk_167 255 191 (dk_at dksX5_product_3 0 rfl rfl)
theorem dX5_product_73 : decode cX5_product 73 = .ok (.aload_n 1, 1) := dk_43 (dk_at dksX5_product_3 3 rfl rfl)
theorem dX5_product_74 : decode cX5_product 74 = .ok (.areturn, 1) := dk_176 (dk_at dksX5_product_3 4 rfl rfl)
abbrev cX5_unit : ByteArray := prog_17_method_18_code
def yX5_unit : MethodName := ⟨RX5, "unit", "()LGingerRents$Term;"⟩
def dkwX5_unit_3 : List UInt8 := [27, 183, 0, 182, 176]
abbrev dktX5_unit_3 : List UInt8 := dkwX5_unit_3 ++ []
def dkwX5_unit_2 : List UInt8 := [180, 0, 41, 183, 0, 125, 191, 42, 180, 0, 120, 17, 0, 180, 100, 60, 42, 182, 0, 131, 187, 0, 180, 89]
abbrev dktX5_unit_2 : List UInt8 := dkwX5_unit_2 ++ dktX5_unit_3
def dkwX5_unit_1 : List UInt8 := [42, 180, 0, 120, 17, 0, 180, 17, 0, 191, 184, 0, 37, 154, 0, 16, 187, 0, 123, 89, 4, 42]
abbrev dktX5_unit_1 : List UInt8 := dkwX5_unit_1 ++ dktX5_unit_2
def dkwX5_unit_0 : List UInt8 := [42, 180, 0, 120, 5, 160, 0, 19, 187, 0, 175, 89, 42, 3, 17, 39, 15, 182, 0, 142, 183, 0, 177, 176]
abbrev dktX5_unit_0 : List UInt8 := dkwX5_unit_0 ++ dktX5_unit_1
theorem dksX5_unit_0 : cX5_unit.data.toList.drop 0 = dktX5_unit_0 := by decide +kernel
theorem dksX5_unit_1 : cX5_unit.data.toList.drop 24 = dktX5_unit_1 := dk_seg dksX5_unit_0 24 rfl rfl
theorem dksX5_unit_2 : cX5_unit.data.toList.drop 46 = dktX5_unit_2 := dk_seg dksX5_unit_1 22 rfl rfl
theorem dksX5_unit_3 : cX5_unit.data.toList.drop 70 = dktX5_unit_3 := dk_seg dksX5_unit_2 24 rfl rfl
theorem dX5_unit_0 : decode cX5_unit 0 = .ok (.aload_n 0, 1) := dk_42 (dk_at dksX5_unit_0 0 rfl rfl)
theorem dX5_unit_1 : decode cX5_unit 1 = .ok (.getfield 120, 3) := dk_180 0 120 (dk_at dksX5_unit_0 1 rfl rfl)
theorem dX5_unit_4 : decode cX5_unit 4 = .ok (.iconst 2, 1) := dk_5 (dk_at dksX5_unit_0 4 rfl rfl)
theorem dX5_unit_5 : decode cX5_unit 5 = .ok (.if_icmp .ne 19, 3) := dk_160 0 19 (dk_at dksX5_unit_0 5 rfl rfl)
theorem dX5_unit_8 : decode cX5_unit 8 = .ok (.new 175, 3) := dk_187 0 175 (dk_at dksX5_unit_0 8 rfl rfl)
theorem dX5_unit_11 : decode cX5_unit 11 = .ok (.dup, 1) := dk_89 (dk_at dksX5_unit_0 11 rfl rfl)
theorem dX5_unit_12 : decode cX5_unit 12 = .ok (.aload_n 0, 1) := dk_42 (dk_at dksX5_unit_0 12 rfl rfl)
theorem dX5_unit_13 : decode cX5_unit 13 = .ok (.iconst 0, 1) := dk_3 (dk_at dksX5_unit_0 13 rfl rfl)
theorem dX5_unit_14 : decode cX5_unit 14 = .ok (.sipush 9999, 3) := dk_17 39 15 (dk_at dksX5_unit_0 14 rfl rfl)
theorem dX5_unit_17 : decode cX5_unit 17 = .ok (.invokevirtual 142, 3) := dk_182 0 142 (dk_at dksX5_unit_0 17 rfl rfl)
theorem dX5_unit_20 : decode cX5_unit 20 = .ok (.invokespecial 177, 3) := dk_183 0 177 (dk_at dksX5_unit_0 20 rfl rfl)
theorem dX5_unit_23 : decode cX5_unit 23 = .ok (.areturn, 1) := dk_176 (dk_at dksX5_unit_0 23 rfl rfl)
theorem dX5_unit_24 : decode cX5_unit 24 = .ok (.aload_n 0, 1) := dk_42 (dk_at dksX5_unit_1 0 rfl rfl)
theorem dX5_unit_25 : decode cX5_unit 25 = .ok (.getfield 120, 3) := dk_180 0 120 (dk_at dksX5_unit_1 1 rfl rfl)
theorem dX5_unit_28 : decode cX5_unit 28 = .ok (.sipush 180, 3) := dk_17 0 180 (dk_at dksX5_unit_1 4 rfl rfl)
theorem dX5_unit_31 : decode cX5_unit 31 = .ok (.sipush 191, 3) := dk_17 0 191 (dk_at dksX5_unit_1 7 rfl rfl)
theorem dX5_unit_34 : decode cX5_unit 34 = .ok (.invokestatic 37, 3) := dk_184 0 37 (dk_at dksX5_unit_1 10 rfl rfl)
theorem dX5_unit_37 : decode cX5_unit 37 = .ok (.ifCond .ne 16, 3) := dk_154 0 16 (dk_at dksX5_unit_1 13 rfl rfl)
theorem dX5_unit_40 : decode cX5_unit 40 = .ok (.new 123, 3) := dk_187 0 123 (dk_at dksX5_unit_1 16 rfl rfl)
theorem dX5_unit_43 : decode cX5_unit 43 = .ok (.dup, 1) := dk_89 (dk_at dksX5_unit_1 19 rfl rfl)
theorem dX5_unit_44 : decode cX5_unit 44 = .ok (.iconst 1, 1) := dk_4 (dk_at dksX5_unit_1 20 rfl rfl)
theorem dX5_unit_45 : decode cX5_unit 45 = .ok (.aload_n 0, 1) := dk_42 (dk_at dksX5_unit_1 21 rfl rfl)
theorem dX5_unit_46 : decode cX5_unit 46 = .ok (.getfield 41, 3) := dk_180 0 41 (dk_at dksX5_unit_2 0 rfl rfl)
theorem dX5_unit_49 : decode cX5_unit 49 = .ok (.invokespecial 125, 3) := dk_183 0 125 (dk_at dksX5_unit_2 3 rfl rfl)
theorem dX5_unit_52 : decode cX5_unit 52 = .ok (.athrow, 1) := dk_191 (dk_at dksX5_unit_2 6 rfl rfl)
theorem dX5_unit_53 : decode cX5_unit 53 = .ok (.aload_n 0, 1) := dk_42 (dk_at dksX5_unit_2 7 rfl rfl)
theorem dX5_unit_54 : decode cX5_unit 54 = .ok (.getfield 120, 3) := dk_180 0 120 (dk_at dksX5_unit_2 8 rfl rfl)
theorem dX5_unit_57 : decode cX5_unit 57 = .ok (.sipush 180, 3) := dk_17 0 180 (dk_at dksX5_unit_2 11 rfl rfl)
theorem dX5_unit_60 : decode cX5_unit 60 = .ok (.isub, 1) := dk_100 (dk_at dksX5_unit_2 14 rfl rfl)
theorem dX5_unit_61 : decode cX5_unit 61 = .ok (.istore_n 1, 1) := dk_60 (dk_at dksX5_unit_2 15 rfl rfl)
theorem dX5_unit_62 : decode cX5_unit 62 = .ok (.aload_n 0, 1) := dk_42 (dk_at dksX5_unit_2 16 rfl rfl)
theorem dX5_unit_63 : decode cX5_unit 63 = .ok (.invokevirtual 131, 3) := dk_182 0 131 (dk_at dksX5_unit_2 17 rfl rfl)
theorem dX5_unit_66 : decode cX5_unit 66 = .ok (.new 180, 3) := dk_187 0 180 (dk_at dksX5_unit_2 20 rfl rfl)
theorem dX5_unit_69 : decode cX5_unit 69 = .ok (.dup, 1) := dk_89 (dk_at dksX5_unit_2 23 rfl rfl)
theorem dX5_unit_70 : decode cX5_unit 70 = .ok (.iload_n 1, 1) := dk_27 (dk_at dksX5_unit_3 0 rfl rfl)
theorem dX5_unit_71 : decode cX5_unit 71 = .ok (.invokespecial 182, 3) := dk_183 0 182 (dk_at dksX5_unit_3 1 rfl rfl)
theorem dX5_unit_74 : decode cX5_unit 74 = .ok (.areturn, 1) := dk_176 (dk_at dksX5_unit_3 4 rfl rfl)
abbrev cX5_number : ByteArray := prog_17_method_10_code
def yX5_number : MethodName := ⟨RX5, "number", "(II)I"⟩
def dkwX5_number_2 : List UInt8 := [42, 180, 0, 128, 62, 42, 182, 0, 131, 29, 172]
abbrev dktX5_number_2 : List UInt8 := dkwX5_number_2 ++ []
def dkwX5_number_1 : List UInt8 := [180, 0, 128, 27, 28, 184, 0, 37, 154, 0, 16, 187, 0, 123, 89, 5, 42, 180, 0, 41, 183, 0, 125, 191]
abbrev dktX5_number_1 : List UInt8 := dkwX5_number_1 ++ dktX5_number_2
def dkwX5_number_0 : List UInt8 := [42, 180, 0, 120, 5, 159, 0, 16, 187, 0, 123, 89, 4, 42, 180, 0, 41, 183, 0, 125, 191, 42]
abbrev dktX5_number_0 : List UInt8 := dkwX5_number_0 ++ dktX5_number_1
theorem dksX5_number_0 : cX5_number.data.toList.drop 0 = dktX5_number_0 := by decide +kernel
theorem dksX5_number_1 : cX5_number.data.toList.drop 22 = dktX5_number_1 := dk_seg dksX5_number_0 22 rfl rfl
theorem dksX5_number_2 : cX5_number.data.toList.drop 46 = dktX5_number_2 := dk_seg dksX5_number_1 24 rfl rfl
theorem dX5_number_0 : decode cX5_number 0 = .ok (.aload_n 0, 1) := dk_42 (dk_at dksX5_number_0 0 rfl rfl)
theorem dX5_number_1 : decode cX5_number 1 = .ok (.getfield 120, 3) := dk_180 0 120 (dk_at dksX5_number_0 1 rfl rfl)
theorem dX5_number_4 : decode cX5_number 4 = .ok (.iconst 2, 1) := dk_5 (dk_at dksX5_number_0 4 rfl rfl)
theorem dX5_number_5 : decode cX5_number 5 = .ok (.if_icmp .eq 16, 3) := dk_159 0 16 (dk_at dksX5_number_0 5 rfl rfl)
theorem dX5_number_8 : decode cX5_number 8 = .ok (.new 123, 3) := dk_187 0 123 (dk_at dksX5_number_0 8 rfl rfl)
theorem dX5_number_11 : decode cX5_number 11 = .ok (.dup, 1) := dk_89 (dk_at dksX5_number_0 11 rfl rfl)
theorem dX5_number_12 : decode cX5_number 12 = .ok (.iconst 1, 1) := dk_4 (dk_at dksX5_number_0 12 rfl rfl)
theorem dX5_number_13 : decode cX5_number 13 = .ok (.aload_n 0, 1) := dk_42 (dk_at dksX5_number_0 13 rfl rfl)
theorem dX5_number_14 : decode cX5_number 14 = .ok (.getfield 41, 3) := dk_180 0 41 (dk_at dksX5_number_0 14 rfl rfl)
theorem dX5_number_17 : decode cX5_number 17 = .ok (.invokespecial 125, 3) := dk_183 0 125 (dk_at dksX5_number_0 17 rfl rfl)
theorem dX5_number_20 : decode cX5_number 20 = .ok (.athrow, 1) := dk_191 (dk_at dksX5_number_0 20 rfl rfl)
theorem dX5_number_21 : decode cX5_number 21 = .ok (.aload_n 0, 1) := dk_42 (dk_at dksX5_number_0 21 rfl rfl)
theorem dX5_number_22 : decode cX5_number 22 = .ok (.getfield 128, 3) := dk_180 0 128 (dk_at dksX5_number_1 0 rfl rfl)
theorem dX5_number_25 : decode cX5_number 25 = .ok (.iload_n 1, 1) := dk_27 (dk_at dksX5_number_1 3 rfl rfl)
theorem dX5_number_26 : decode cX5_number 26 = .ok (.iload_n 2, 1) := dk_28 (dk_at dksX5_number_1 4 rfl rfl)
theorem dX5_number_27 : decode cX5_number 27 = .ok (.invokestatic 37, 3) := dk_184 0 37 (dk_at dksX5_number_1 5 rfl rfl)
theorem dX5_number_30 : decode cX5_number 30 = .ok (.ifCond .ne 16, 3) := dk_154 0 16 (dk_at dksX5_number_1 8 rfl rfl)
theorem dX5_number_33 : decode cX5_number 33 = .ok (.new 123, 3) := dk_187 0 123 (dk_at dksX5_number_1 11 rfl rfl)
theorem dX5_number_36 : decode cX5_number 36 = .ok (.dup, 1) := dk_89 (dk_at dksX5_number_1 14 rfl rfl)
theorem dX5_number_37 : decode cX5_number 37 = .ok (.iconst 2, 1) := dk_5 (dk_at dksX5_number_1 15 rfl rfl)
theorem dX5_number_38 : decode cX5_number 38 = .ok (.aload_n 0, 1) := dk_42 (dk_at dksX5_number_1 16 rfl rfl)
theorem dX5_number_39 : decode cX5_number 39 = .ok (.getfield 41, 3) := dk_180 0 41 (dk_at dksX5_number_1 17 rfl rfl)
theorem dX5_number_42 : decode cX5_number 42 = .ok (.invokespecial 125, 3) := dk_183 0 125 (dk_at dksX5_number_1 20 rfl rfl)
theorem dX5_number_45 : decode cX5_number 45 = .ok (.athrow, 1) := dk_191 (dk_at dksX5_number_1 23 rfl rfl)
theorem dX5_number_46 : decode cX5_number 46 = .ok (.aload_n 0, 1) := dk_42 (dk_at dksX5_number_2 0 rfl rfl)
theorem dX5_number_47 : decode cX5_number 47 = .ok (.getfield 128, 3) := dk_180 0 128 (dk_at dksX5_number_2 1 rfl rfl)
theorem dX5_number_50 : decode cX5_number 50 = .ok (.istore_n 3, 1) := dk_62 (dk_at dksX5_number_2 4 rfl rfl)
theorem dX5_number_51 : decode cX5_number 51 = .ok (.aload_n 0, 1) := dk_42 (dk_at dksX5_number_2 5 rfl rfl)
theorem dX5_number_52 : decode cX5_number 52 = .ok (.invokevirtual 131, 3) := dk_182 0 131 (dk_at dksX5_number_2 6 rfl rfl)
theorem dX5_number_55 : decode cX5_number 55 = .ok (.iload_n 3, 1) := dk_29 (dk_at dksX5_number_2 9 rfl rfl)
theorem dX5_number_56 : decode cX5_number 56 = .ok (.ireturn, 1) := dk_172 (dk_at dksX5_number_2 10 rfl rfl)
abbrev cX5_any : ByteArray := prog_17_method_19_code
def yX5_any : MethodName := ⟨RX5, "any", "()LGingerRents$Term;"⟩
def dkwX5_any_1 : List UInt8 := [182, 0, 183, 183, 0, 169, 76, 167, 255, 230, 43, 176]
abbrev dktX5_any_1 : List UInt8 := dkwX5_any_1 ++ []
def dkwX5_any_0 : List UInt8 := [42, 182, 0, 183, 76, 42, 180, 0, 120, 7, 160, 0, 24, 42, 182, 0, 131, 187, 0, 167, 89, 43, 7, 42]
abbrev dktX5_any_0 : List UInt8 := dkwX5_any_0 ++ dktX5_any_1
theorem dksX5_any_0 : cX5_any.data.toList.drop 0 = dktX5_any_0 := by decide +kernel
theorem dksX5_any_1 : cX5_any.data.toList.drop 24 = dktX5_any_1 := dk_seg dksX5_any_0 24 rfl rfl
theorem dX5_any_0 : decode cX5_any 0 = .ok (.aload_n 0, 1) := dk_42 (dk_at dksX5_any_0 0 rfl rfl)
theorem dX5_any_1 : decode cX5_any 1 = .ok (.invokevirtual 183, 3) := dk_182 0 183 (dk_at dksX5_any_0 1 rfl rfl)
theorem dX5_any_4 : decode cX5_any 4 = .ok (.astore_n 1, 1) := dk_76 (dk_at dksX5_any_0 4 rfl rfl)
theorem dX5_any_5 : decode cX5_any 5 = .ok (.aload_n 0, 1) := dk_42 (dk_at dksX5_any_0 5 rfl rfl)
theorem dX5_any_6 : decode cX5_any 6 = .ok (.getfield 120, 3) := dk_180 0 120 (dk_at dksX5_any_0 6 rfl rfl)
theorem dX5_any_9 : decode cX5_any 9 = .ok (.iconst 4, 1) := dk_7 (dk_at dksX5_any_0 9 rfl rfl)
theorem dX5_any_10 : decode cX5_any 10 = .ok (.if_icmp .ne 24, 3) := dk_160 0 24 (dk_at dksX5_any_0 10 rfl rfl)
theorem dX5_any_13 : decode cX5_any 13 = .ok (.aload_n 0, 1) := dk_42 (dk_at dksX5_any_0 13 rfl rfl)
theorem dX5_any_14 : decode cX5_any 14 = .ok (.invokevirtual 131, 3) := dk_182 0 131 (dk_at dksX5_any_0 14 rfl rfl)
theorem dX5_any_17 : decode cX5_any 17 = .ok (.new 167, 3) := dk_187 0 167 (dk_at dksX5_any_0 17 rfl rfl)
theorem dX5_any_20 : decode cX5_any 20 = .ok (.dup, 1) := dk_89 (dk_at dksX5_any_0 20 rfl rfl)
theorem dX5_any_21 : decode cX5_any 21 = .ok (.aload_n 1, 1) := dk_43 (dk_at dksX5_any_0 21 rfl rfl)
theorem dX5_any_22 : decode cX5_any 22 = .ok (.iconst 4, 1) := dk_7 (dk_at dksX5_any_0 22 rfl rfl)
theorem dX5_any_23 : decode cX5_any 23 = .ok (.aload_n 0, 1) := dk_42 (dk_at dksX5_any_0 23 rfl rfl)
theorem dX5_any_24 : decode cX5_any 24 = .ok (.invokevirtual 183, 3) := dk_182 0 183 (dk_at dksX5_any_1 0 rfl rfl)
theorem dX5_any_27 : decode cX5_any 27 = .ok (.invokespecial 169, 3) := dk_183 0 169 (dk_at dksX5_any_1 3 rfl rfl)
theorem dX5_any_30 : decode cX5_any 30 = .ok (.astore_n 1, 1) := dk_76 (dk_at dksX5_any_1 6 rfl rfl)
theorem dX5_any_31 : decode cX5_any 31 = .ok (.goto (-26), 3) := dk_167 255 230 (dk_at dksX5_any_1 7 rfl rfl)
theorem dX5_any_34 : decode cX5_any 34 = .ok (.aload_n 1, 1) := dk_43 (dk_at dksX5_any_1 10 rfl rfl)
theorem dX5_any_35 : decode cX5_any 35 = .ok (.areturn, 1) := dk_176 (dk_at dksX5_any_1 11 rfl rfl)
abbrev cX5_all : ByteArray := prog_17_method_20_code
def yX5_all : MethodName := ⟨RX5, "all", "()LGingerRents$Term;"⟩
def dkwX5_all_1 : List UInt8 := [182, 0, 186, 183, 0, 169, 76, 167, 255, 230, 43, 176]
abbrev dktX5_all_1 : List UInt8 := dkwX5_all_1 ++ []
def dkwX5_all_0 : List UInt8 := [42, 182, 0, 186, 76, 42, 180, 0, 120, 8, 160, 0, 24, 42, 182, 0, 131, 187, 0, 167, 89, 43, 8, 42]
abbrev dktX5_all_0 : List UInt8 := dkwX5_all_0 ++ dktX5_all_1
theorem dksX5_all_0 : cX5_all.data.toList.drop 0 = dktX5_all_0 := by decide +kernel
theorem dksX5_all_1 : cX5_all.data.toList.drop 24 = dktX5_all_1 := dk_seg dksX5_all_0 24 rfl rfl
theorem dX5_all_0 : decode cX5_all 0 = .ok (.aload_n 0, 1) := dk_42 (dk_at dksX5_all_0 0 rfl rfl)
theorem dX5_all_1 : decode cX5_all 1 = .ok (.invokevirtual 186, 3) := dk_182 0 186 (dk_at dksX5_all_0 1 rfl rfl)
theorem dX5_all_4 : decode cX5_all 4 = .ok (.astore_n 1, 1) := dk_76 (dk_at dksX5_all_0 4 rfl rfl)
theorem dX5_all_5 : decode cX5_all 5 = .ok (.aload_n 0, 1) := dk_42 (dk_at dksX5_all_0 5 rfl rfl)
theorem dX5_all_6 : decode cX5_all 6 = .ok (.getfield 120, 3) := dk_180 0 120 (dk_at dksX5_all_0 6 rfl rfl)
theorem dX5_all_9 : decode cX5_all 9 = .ok (.iconst 5, 1) := dk_8 (dk_at dksX5_all_0 9 rfl rfl)
theorem dX5_all_10 : decode cX5_all 10 = .ok (.if_icmp .ne 24, 3) := dk_160 0 24 (dk_at dksX5_all_0 10 rfl rfl)
theorem dX5_all_13 : decode cX5_all 13 = .ok (.aload_n 0, 1) := dk_42 (dk_at dksX5_all_0 13 rfl rfl)
theorem dX5_all_14 : decode cX5_all 14 = .ok (.invokevirtual 131, 3) := dk_182 0 131 (dk_at dksX5_all_0 14 rfl rfl)
theorem dX5_all_17 : decode cX5_all 17 = .ok (.new 167, 3) := dk_187 0 167 (dk_at dksX5_all_0 17 rfl rfl)
theorem dX5_all_20 : decode cX5_all 20 = .ok (.dup, 1) := dk_89 (dk_at dksX5_all_0 20 rfl rfl)
theorem dX5_all_21 : decode cX5_all 21 = .ok (.aload_n 1, 1) := dk_43 (dk_at dksX5_all_0 21 rfl rfl)
theorem dX5_all_22 : decode cX5_all 22 = .ok (.iconst 5, 1) := dk_8 (dk_at dksX5_all_0 22 rfl rfl)
theorem dX5_all_23 : decode cX5_all 23 = .ok (.aload_n 0, 1) := dk_42 (dk_at dksX5_all_0 23 rfl rfl)
theorem dX5_all_24 : decode cX5_all 24 = .ok (.invokevirtual 186, 3) := dk_182 0 186 (dk_at dksX5_all_1 0 rfl rfl)
theorem dX5_all_27 : decode cX5_all 27 = .ok (.invokespecial 169, 3) := dk_183 0 169 (dk_at dksX5_all_1 3 rfl rfl)
theorem dX5_all_30 : decode cX5_all 30 = .ok (.astore_n 1, 1) := dk_76 (dk_at dksX5_all_1 6 rfl rfl)
theorem dX5_all_31 : decode cX5_all 31 = .ok (.goto (-26), 3) := dk_167 255 230 (dk_at dksX5_all_1 7 rfl rfl)
theorem dX5_all_34 : decode cX5_all 34 = .ok (.aload_n 1, 1) := dk_43 (dk_at dksX5_all_1 10 rfl rfl)
theorem dX5_all_35 : decode cX5_all 35 = .ok (.areturn, 1) := dk_176 (dk_at dksX5_all_1 11 rfl rfl)
abbrev cX5_one : ByteArray := prog_17_method_21_code
def yX5_one : MethodName := ⟨RX5, "one", "()LGingerRents$Term;"⟩
def dkwX5_one_6 : List UInt8 := [176]
abbrev dktX5_one_6 : List UInt8 := dkwX5_one_6 ++ []
def dkwX5_one_5 : List UInt8 := [180, 0, 41, 183, 0, 125, 191, 42, 182, 0, 131, 187, 0, 167, 89, 43, 28, 42, 182, 0, 203, 183, 0, 169]
abbrev dktX5_one_5 : List UInt8 := dkwX5_one_5 ++ dktX5_one_6
def dkwX5_one_4 : List UInt8 := [16, 60, 159, 0, 28, 28, 16, 61, 159, 0, 22, 28, 16, 62, 159, 0, 16, 187, 0, 123, 89, 4, 42]
abbrev dktX5_one_4 : List UInt8 := dkwX5_one_4 ++ dktX5_one_5
def dkwX5_one_3 : List UInt8 := [42, 89, 180, 0, 160, 4, 100, 181, 0, 160, 44, 176, 42, 182, 0, 203, 76, 42, 180, 0, 120, 61, 28]
abbrev dktX5_one_3 : List UInt8 := dkwX5_one_3 ++ dktX5_one_4
def dkwX5_one_2 : List UInt8 := [182, 0, 186, 183, 0, 194, 167, 0, 7, 42, 182, 0, 197, 77, 27, 154, 0, 9, 42, 16, 41, 182, 0, 200]
abbrev dktX5_one_2 : List UInt8 := dkwX5_one_2 ++ dktX5_one_3
def dkwX5_one_1 : List UInt8 := [160, 0, 7, 4, 167, 0, 4, 3, 60, 42, 182, 0, 189, 27, 153, 0, 17, 187, 0, 192, 89, 42]
abbrev dktX5_one_1 : List UInt8 := dkwX5_one_1 ++ dktX5_one_2
def dkwX5_one_0 : List UInt8 := [42, 180, 0, 120, 16, 6, 159, 0, 12, 42, 180, 0, 120, 16, 40, 160, 0, 67, 42, 180, 0, 120, 16, 6]
abbrev dktX5_one_0 : List UInt8 := dkwX5_one_0 ++ dktX5_one_1
theorem dksX5_one_0 : cX5_one.data.toList.drop 0 = dktX5_one_0 := by decide +kernel
theorem dksX5_one_1 : cX5_one.data.toList.drop 24 = dktX5_one_1 := dk_seg dksX5_one_0 24 rfl rfl
theorem dksX5_one_2 : cX5_one.data.toList.drop 46 = dktX5_one_2 := dk_seg dksX5_one_1 22 rfl rfl
theorem dksX5_one_3 : cX5_one.data.toList.drop 70 = dktX5_one_3 := dk_seg dksX5_one_2 24 rfl rfl
theorem dksX5_one_4 : cX5_one.data.toList.drop 93 = dktX5_one_4 := dk_seg dksX5_one_3 23 rfl rfl
theorem dksX5_one_5 : cX5_one.data.toList.drop 116 = dktX5_one_5 := dk_seg dksX5_one_4 23 rfl rfl
theorem dksX5_one_6 : cX5_one.data.toList.drop 140 = dktX5_one_6 := dk_seg dksX5_one_5 24 rfl rfl
theorem dX5_one_0 : decode cX5_one 0 = .ok (.aload_n 0, 1) := dk_42 (dk_at dksX5_one_0 0 rfl rfl)
theorem dX5_one_1 : decode cX5_one 1 = .ok (.getfield 120, 3) := dk_180 0 120 (dk_at dksX5_one_0 1 rfl rfl)
theorem dX5_one_4 : decode cX5_one 4 = .ok (.bipush 6, 2) := dk_16 6 (dk_at dksX5_one_0 4 rfl rfl)
theorem dX5_one_6 : decode cX5_one 6 = .ok (.if_icmp .eq 12, 3) := dk_159 0 12 (dk_at dksX5_one_0 6 rfl rfl)
theorem dX5_one_9 : decode cX5_one 9 = .ok (.aload_n 0, 1) := dk_42 (dk_at dksX5_one_0 9 rfl rfl)
theorem dX5_one_10 : decode cX5_one 10 = .ok (.getfield 120, 3) := dk_180 0 120 (dk_at dksX5_one_0 10 rfl rfl)
theorem dX5_one_13 : decode cX5_one 13 = .ok (.bipush 40, 2) := dk_16 40 (dk_at dksX5_one_0 13 rfl rfl)
theorem dX5_one_15 : decode cX5_one 15 = .ok (.if_icmp .ne 67, 3) := dk_160 0 67 (dk_at dksX5_one_0 15 rfl rfl)
theorem dX5_one_18 : decode cX5_one 18 = .ok (.aload_n 0, 1) := dk_42 (dk_at dksX5_one_0 18 rfl rfl)
theorem dX5_one_19 : decode cX5_one 19 = .ok (.getfield 120, 3) := dk_180 0 120 (dk_at dksX5_one_0 19 rfl rfl)
theorem dX5_one_22 : decode cX5_one 22 = .ok (.bipush 6, 2) := dk_16 6 (dk_at dksX5_one_0 22 rfl rfl)
theorem dX5_one_24 : decode cX5_one 24 = .ok (.if_icmp .ne 7, 3) := dk_160 0 7 (dk_at dksX5_one_1 0 rfl rfl)
theorem dX5_one_27 : decode cX5_one 27 = .ok (.iconst 1, 1) := dk_4 (dk_at dksX5_one_1 3 rfl rfl)
theorem dX5_one_28 : decode cX5_one 28 = .ok (.goto 4, 3) := dk_167 0 4 (dk_at dksX5_one_1 4 rfl rfl)
theorem dX5_one_31 : decode cX5_one 31 = .ok (.iconst 0, 1) := dk_3 (dk_at dksX5_one_1 7 rfl rfl)
theorem dX5_one_32 : decode cX5_one 32 = .ok (.istore_n 1, 1) := dk_60 (dk_at dksX5_one_1 8 rfl rfl)
theorem dX5_one_33 : decode cX5_one 33 = .ok (.aload_n 0, 1) := dk_42 (dk_at dksX5_one_1 9 rfl rfl)
theorem dX5_one_34 : decode cX5_one 34 = .ok (.invokevirtual 189, 3) := dk_182 0 189 (dk_at dksX5_one_1 10 rfl rfl)
theorem dX5_one_37 : decode cX5_one 37 = .ok (.iload_n 1, 1) := dk_27 (dk_at dksX5_one_1 13 rfl rfl)
theorem dX5_one_38 : decode cX5_one 38 = .ok (.ifCond .eq 17, 3) := dk_153 0 17 (dk_at dksX5_one_1 14 rfl rfl)
theorem dX5_one_41 : decode cX5_one 41 = .ok (.new 192, 3) := dk_187 0 192 (dk_at dksX5_one_1 17 rfl rfl)
theorem dX5_one_44 : decode cX5_one 44 = .ok (.dup, 1) := dk_89 (dk_at dksX5_one_1 20 rfl rfl)
theorem dX5_one_45 : decode cX5_one 45 = .ok (.aload_n 0, 1) := dk_42 (dk_at dksX5_one_1 21 rfl rfl)
theorem dX5_one_46 : decode cX5_one 46 = .ok (.invokevirtual 186, 3) := dk_182 0 186 (dk_at dksX5_one_2 0 rfl rfl)
theorem dX5_one_49 : decode cX5_one 49 = .ok (.invokespecial 194, 3) := dk_183 0 194 (dk_at dksX5_one_2 3 rfl rfl)
theorem dX5_one_52 : decode cX5_one 52 = .ok (.goto 7, 3) := dk_167 0 7 (dk_at dksX5_one_2 6 rfl rfl)
theorem dX5_one_55 : decode cX5_one 55 = .ok (.aload_n 0, 1) := dk_42 (dk_at dksX5_one_2 9 rfl rfl)
theorem dX5_one_56 : decode cX5_one 56 = .ok (.invokevirtual 197, 3) := dk_182 0 197 (dk_at dksX5_one_2 10 rfl rfl)
theorem dX5_one_59 : decode cX5_one 59 = .ok (.astore_n 2, 1) := dk_77 (dk_at dksX5_one_2 13 rfl rfl)
theorem dX5_one_60 : decode cX5_one 60 = .ok (.iload_n 1, 1) := dk_27 (dk_at dksX5_one_2 14 rfl rfl)
theorem dX5_one_61 : decode cX5_one 61 = .ok (.ifCond .ne 9, 3) := dk_154 0 9 (dk_at dksX5_one_2 15 rfl rfl)
theorem dX5_one_64 : decode cX5_one 64 = .ok (.aload_n 0, 1) := dk_42 (dk_at dksX5_one_2 18 rfl rfl)
theorem dX5_one_65 : decode cX5_one 65 = .ok (.bipush 41, 2) := dk_16 41 (dk_at dksX5_one_2 19 rfl rfl)
theorem dX5_one_67 : decode cX5_one 67 = .ok (.invokevirtual 200, 3) := dk_182 0 200 (dk_at dksX5_one_2 21 rfl rfl)
theorem dX5_one_70 : decode cX5_one 70 = .ok (.aload_n 0, 1) := dk_42 (dk_at dksX5_one_3 0 rfl rfl)
theorem dX5_one_71 : decode cX5_one 71 = .ok (.dup, 1) := dk_89 (dk_at dksX5_one_3 1 rfl rfl)
theorem dX5_one_72 : decode cX5_one 72 = .ok (.getfield 160, 3) := dk_180 0 160 (dk_at dksX5_one_3 2 rfl rfl)
theorem dX5_one_75 : decode cX5_one 75 = .ok (.iconst 1, 1) := dk_4 (dk_at dksX5_one_3 5 rfl rfl)
theorem dX5_one_76 : decode cX5_one 76 = .ok (.isub, 1) := dk_100 (dk_at dksX5_one_3 6 rfl rfl)
theorem dX5_one_77 : decode cX5_one 77 = .ok (.putfield 160, 3) := dk_181 0 160 (dk_at dksX5_one_3 7 rfl rfl)
theorem dX5_one_80 : decode cX5_one 80 = .ok (.aload_n 2, 1) := dk_44 (dk_at dksX5_one_3 10 rfl rfl)
theorem dX5_one_81 : decode cX5_one 81 = .ok (.areturn, 1) := dk_176 (dk_at dksX5_one_3 11 rfl rfl)
theorem dX5_one_82 : decode cX5_one 82 = .ok (.aload_n 0, 1) := dk_42 (dk_at dksX5_one_3 12 rfl rfl)
theorem dX5_one_83 : decode cX5_one 83 = .ok (.invokevirtual 203, 3) := dk_182 0 203 (dk_at dksX5_one_3 13 rfl rfl)
theorem dX5_one_86 : decode cX5_one 86 = .ok (.astore_n 1, 1) := dk_76 (dk_at dksX5_one_3 16 rfl rfl)
theorem dX5_one_87 : decode cX5_one 87 = .ok (.aload_n 0, 1) := dk_42 (dk_at dksX5_one_3 17 rfl rfl)
theorem dX5_one_88 : decode cX5_one 88 = .ok (.getfield 120, 3) := dk_180 0 120 (dk_at dksX5_one_3 18 rfl rfl)
theorem dX5_one_91 : decode cX5_one 91 = .ok (.istore_n 2, 1) := dk_61 (dk_at dksX5_one_3 21 rfl rfl)
theorem dX5_one_92 : decode cX5_one 92 = .ok (.iload_n 2, 1) := dk_28 (dk_at dksX5_one_3 22 rfl rfl)
theorem dX5_one_93 : decode cX5_one 93 = .ok (.bipush 60, 2) := dk_16 60 (dk_at dksX5_one_4 0 rfl rfl)
theorem dX5_one_95 : decode cX5_one 95 = .ok (.if_icmp .eq 28, 3) := dk_159 0 28 (dk_at dksX5_one_4 2 rfl rfl)
theorem dX5_one_98 : decode cX5_one 98 = .ok (.iload_n 2, 1) := dk_28 (dk_at dksX5_one_4 5 rfl rfl)
theorem dX5_one_99 : decode cX5_one 99 = .ok (.bipush 61, 2) := dk_16 61 (dk_at dksX5_one_4 6 rfl rfl)
theorem dX5_one_101 : decode cX5_one 101 = .ok (.if_icmp .eq 22, 3) := dk_159 0 22 (dk_at dksX5_one_4 8 rfl rfl)
theorem dX5_one_104 : decode cX5_one 104 = .ok (.iload_n 2, 1) := dk_28 (dk_at dksX5_one_4 11 rfl rfl)
theorem dX5_one_105 : decode cX5_one 105 = .ok (.bipush 62, 2) := dk_16 62 (dk_at dksX5_one_4 12 rfl rfl)
theorem dX5_one_107 : decode cX5_one 107 = .ok (.if_icmp .eq 16, 3) := dk_159 0 16 (dk_at dksX5_one_4 14 rfl rfl)
theorem dX5_one_110 : decode cX5_one 110 = .ok (.new 123, 3) := dk_187 0 123 (dk_at dksX5_one_4 17 rfl rfl)
theorem dX5_one_113 : decode cX5_one 113 = .ok (.dup, 1) := dk_89 (dk_at dksX5_one_4 20 rfl rfl)
theorem dX5_one_114 : decode cX5_one 114 = .ok (.iconst 1, 1) := dk_4 (dk_at dksX5_one_4 21 rfl rfl)
theorem dX5_one_115 : decode cX5_one 115 = .ok (.aload_n 0, 1) := dk_42 (dk_at dksX5_one_4 22 rfl rfl)
theorem dX5_one_116 : decode cX5_one 116 = .ok (.getfield 41, 3) := dk_180 0 41 (dk_at dksX5_one_5 0 rfl rfl)
theorem dX5_one_119 : decode cX5_one 119 = .ok (.invokespecial 125, 3) := dk_183 0 125 (dk_at dksX5_one_5 3 rfl rfl)
theorem dX5_one_122 : decode cX5_one 122 = .ok (.athrow, 1) := dk_191 (dk_at dksX5_one_5 6 rfl rfl)
theorem dX5_one_123 : decode cX5_one 123 = .ok (.aload_n 0, 1) := dk_42 (dk_at dksX5_one_5 7 rfl rfl)
theorem dX5_one_124 : decode cX5_one 124 = .ok (.invokevirtual 131, 3) := dk_182 0 131 (dk_at dksX5_one_5 8 rfl rfl)
theorem dX5_one_127 : decode cX5_one 127 = .ok (.new 167, 3) := dk_187 0 167 (dk_at dksX5_one_5 11 rfl rfl)
theorem dX5_one_130 : decode cX5_one 130 = .ok (.dup, 1) := dk_89 (dk_at dksX5_one_5 14 rfl rfl)
theorem dX5_one_131 : decode cX5_one 131 = .ok (.aload_n 1, 1) := dk_43 (dk_at dksX5_one_5 15 rfl rfl)
theorem dX5_one_132 : decode cX5_one 132 = .ok (.iload_n 2, 1) := dk_28 (dk_at dksX5_one_5 16 rfl rfl)
theorem dX5_one_133 : decode cX5_one 133 = .ok (.aload_n 0, 1) := dk_42 (dk_at dksX5_one_5 17 rfl rfl)
theorem dX5_one_134 : decode cX5_one 134 = .ok (.invokevirtual 203, 3) := dk_182 0 203 (dk_at dksX5_one_5 18 rfl rfl)
theorem dX5_one_137 : decode cX5_one 137 = .ok (.invokespecial 169, 3) := dk_183 0 169 (dk_at dksX5_one_5 21 rfl rfl)
theorem dX5_one_140 : decode cX5_one 140 = .ok (.areturn, 1) := dk_176 (dk_at dksX5_one_6 0 rfl rfl)
abbrev cX5_opens : ByteArray := prog_17_method_15_code
def yX5_opens : MethodName := ⟨RX5, "opens", "()V"⟩
def dkwX5_opens_1 : List UInt8 := [180, 0, 160, 4, 96, 181, 0, 160, 42, 182, 0, 131, 177]
abbrev dktX5_opens_1 : List UInt8 := dkwX5_opens_1 ++ []
def dkwX5_opens_0 : List UInt8 := [42, 180, 0, 160, 16, 8, 160, 0, 16, 187, 0, 123, 89, 6, 42, 180, 0, 41, 183, 0, 125, 191, 42, 89]
abbrev dktX5_opens_0 : List UInt8 := dkwX5_opens_0 ++ dktX5_opens_1
theorem dksX5_opens_0 : cX5_opens.data.toList.drop 0 = dktX5_opens_0 := by decide +kernel
theorem dksX5_opens_1 : cX5_opens.data.toList.drop 24 = dktX5_opens_1 := dk_seg dksX5_opens_0 24 rfl rfl
theorem dX5_opens_0 : decode cX5_opens 0 = .ok (.aload_n 0, 1) := dk_42 (dk_at dksX5_opens_0 0 rfl rfl)
theorem dX5_opens_1 : decode cX5_opens 1 = .ok (.getfield 160, 3) := dk_180 0 160 (dk_at dksX5_opens_0 1 rfl rfl)
theorem dX5_opens_4 : decode cX5_opens 4 = .ok (.bipush 8, 2) := dk_16 8 (dk_at dksX5_opens_0 4 rfl rfl)
theorem dX5_opens_6 : decode cX5_opens 6 = .ok (.if_icmp .ne 16, 3) := dk_160 0 16 (dk_at dksX5_opens_0 6 rfl rfl)
theorem dX5_opens_9 : decode cX5_opens 9 = .ok (.new 123, 3) := dk_187 0 123 (dk_at dksX5_opens_0 9 rfl rfl)
theorem dX5_opens_12 : decode cX5_opens 12 = .ok (.dup, 1) := dk_89 (dk_at dksX5_opens_0 12 rfl rfl)
theorem dX5_opens_13 : decode cX5_opens 13 = .ok (.iconst 3, 1) := dk_6 (dk_at dksX5_opens_0 13 rfl rfl)
theorem dX5_opens_14 : decode cX5_opens 14 = .ok (.aload_n 0, 1) := dk_42 (dk_at dksX5_opens_0 14 rfl rfl)
theorem dX5_opens_15 : decode cX5_opens 15 = .ok (.getfield 41, 3) := dk_180 0 41 (dk_at dksX5_opens_0 15 rfl rfl)
theorem dX5_opens_18 : decode cX5_opens 18 = .ok (.invokespecial 125, 3) := dk_183 0 125 (dk_at dksX5_opens_0 18 rfl rfl)
theorem dX5_opens_21 : decode cX5_opens 21 = .ok (.athrow, 1) := dk_191 (dk_at dksX5_opens_0 21 rfl rfl)
theorem dX5_opens_22 : decode cX5_opens 22 = .ok (.aload_n 0, 1) := dk_42 (dk_at dksX5_opens_0 22 rfl rfl)
theorem dX5_opens_23 : decode cX5_opens 23 = .ok (.dup, 1) := dk_89 (dk_at dksX5_opens_0 23 rfl rfl)
theorem dX5_opens_24 : decode cX5_opens 24 = .ok (.getfield 160, 3) := dk_180 0 160 (dk_at dksX5_opens_1 0 rfl rfl)
theorem dX5_opens_27 : decode cX5_opens 27 = .ok (.iconst 1, 1) := dk_4 (dk_at dksX5_opens_1 3 rfl rfl)
theorem dX5_opens_28 : decode cX5_opens 28 = .ok (.iadd, 1) := dk_96 (dk_at dksX5_opens_1 4 rfl rfl)
theorem dX5_opens_29 : decode cX5_opens 29 = .ok (.putfield 160, 3) := dk_181 0 160 (dk_at dksX5_opens_1 5 rfl rfl)
theorem dX5_opens_32 : decode cX5_opens 32 = .ok (.aload_n 0, 1) := dk_42 (dk_at dksX5_opens_1 8 rfl rfl)
theorem dX5_opens_33 : decode cX5_opens 33 = .ok (.invokevirtual 131, 3) := dk_182 0 131 (dk_at dksX5_opens_1 9 rfl rfl)
theorem dX5_opens_36 : decode cX5_opens 36 = .ok (.return_, 1) := dk_177 (dk_at dksX5_opens_1 12 rfl rfl)
abbrev cX5_must : ByteArray := prog_17_method_14_code
def yX5_must : MethodName := ⟨RX5, "must", "(I)V"⟩
def dkwX5_must_1 : List UInt8 := [182, 0, 131, 177]
abbrev dktX5_must_1 : List UInt8 := dkwX5_must_1 ++ []
def dkwX5_must_0 : List UInt8 := [42, 180, 0, 120, 27, 159, 0, 16, 187, 0, 123, 89, 4, 42, 180, 0, 41, 183, 0, 125, 191, 42]
abbrev dktX5_must_0 : List UInt8 := dkwX5_must_0 ++ dktX5_must_1
theorem dksX5_must_0 : cX5_must.data.toList.drop 0 = dktX5_must_0 := by decide +kernel
theorem dksX5_must_1 : cX5_must.data.toList.drop 22 = dktX5_must_1 := dk_seg dksX5_must_0 22 rfl rfl
theorem dX5_must_0 : decode cX5_must 0 = .ok (.aload_n 0, 1) := dk_42 (dk_at dksX5_must_0 0 rfl rfl)
theorem dX5_must_1 : decode cX5_must 1 = .ok (.getfield 120, 3) := dk_180 0 120 (dk_at dksX5_must_0 1 rfl rfl)
theorem dX5_must_4 : decode cX5_must 4 = .ok (.iload_n 1, 1) := dk_27 (dk_at dksX5_must_0 4 rfl rfl)
theorem dX5_must_5 : decode cX5_must 5 = .ok (.if_icmp .eq 16, 3) := dk_159 0 16 (dk_at dksX5_must_0 5 rfl rfl)
theorem dX5_must_8 : decode cX5_must 8 = .ok (.new 123, 3) := dk_187 0 123 (dk_at dksX5_must_0 8 rfl rfl)
theorem dX5_must_11 : decode cX5_must 11 = .ok (.dup, 1) := dk_89 (dk_at dksX5_must_0 11 rfl rfl)
theorem dX5_must_12 : decode cX5_must 12 = .ok (.iconst 1, 1) := dk_4 (dk_at dksX5_must_0 12 rfl rfl)
theorem dX5_must_13 : decode cX5_must 13 = .ok (.aload_n 0, 1) := dk_42 (dk_at dksX5_must_0 13 rfl rfl)
theorem dX5_must_14 : decode cX5_must 14 = .ok (.getfield 41, 3) := dk_180 0 41 (dk_at dksX5_must_0 14 rfl rfl)
theorem dX5_must_17 : decode cX5_must 17 = .ok (.invokespecial 125, 3) := dk_183 0 125 (dk_at dksX5_must_0 17 rfl rfl)
theorem dX5_must_20 : decode cX5_must 20 = .ok (.athrow, 1) := dk_191 (dk_at dksX5_must_0 20 rfl rfl)
theorem dX5_must_21 : decode cX5_must 21 = .ok (.aload_n 0, 1) := dk_42 (dk_at dksX5_must_0 21 rfl rfl)
theorem dX5_must_22 : decode cX5_must 22 = .ok (.invokevirtual 131, 3) := dk_182 0 131 (dk_at dksX5_must_1 0 rfl rfl)
theorem dX5_must_25 : decode cX5_must 25 = .ok (.return_, 1) := dk_177 (dk_at dksX5_must_1 3 rfl rfl)
abbrev cX5_entries : ByteArray := prog_17_method_25_code
def yX5_entries : MethodName := ⟨RX5, "entries", "()Ljava/util/ArrayList;"⟩
def dkwX5_entries_4 : List UInt8 := [42, 28, 182, 0, 248, 182, 0, 216, 87, 42, 16, 59, 182, 0, 200, 167, 255, 160, 43, 176]
abbrev dktX5_entries_4 : List UInt8 := dkwX5_entries_4 ++ []
def dkwX5_entries_3 : List UInt8 := [17, 3, 231, 182, 0, 142, 61, 43, 42, 180, 0, 19, 4, 160, 0, 11, 42, 28, 182, 0, 244, 167, 0, 8]
abbrev dktX5_entries_3 : List UInt8 := dkwX5_entries_3 ++ dktX5_entries_4
def dkwX5_entries_2 : List UInt8 := [160, 0, 16, 187, 0, 123, 89, 6, 42, 180, 0, 41, 183, 0, 125, 191, 42, 182, 0, 131, 42, 3]
abbrev dktX5_entries_2 : List UInt8 := dkwX5_entries_2 ++ dktX5_entries_3
def dkwX5_entries_1 : List UInt8 := [16, 10, 159, 0, 16, 187, 0, 123, 89, 4, 42, 180, 0, 41, 183, 0, 125, 191, 43, 182, 0, 208, 16, 16]
abbrev dktX5_entries_1 : List UInt8 := dkwX5_entries_1 ++ dktX5_entries_2
def dkwX5_entries_0 : List UInt8 := [187, 0, 205, 89, 183, 0, 207, 76, 42, 182, 0, 131, 42, 180, 0, 120, 153, 0, 95, 42, 180, 0, 120]
abbrev dktX5_entries_0 : List UInt8 := dkwX5_entries_0 ++ dktX5_entries_1
theorem dksX5_entries_0 : cX5_entries.data.toList.drop 0 = dktX5_entries_0 := by decide +kernel
theorem dksX5_entries_1 : cX5_entries.data.toList.drop 23 = dktX5_entries_1 := dk_seg dksX5_entries_0 23 rfl rfl
theorem dksX5_entries_2 : cX5_entries.data.toList.drop 47 = dktX5_entries_2 := dk_seg dksX5_entries_1 24 rfl rfl
theorem dksX5_entries_3 : cX5_entries.data.toList.drop 69 = dktX5_entries_3 := dk_seg dksX5_entries_2 22 rfl rfl
theorem dksX5_entries_4 : cX5_entries.data.toList.drop 93 = dktX5_entries_4 := dk_seg dksX5_entries_3 24 rfl rfl
theorem dX5_entries_0 : decode cX5_entries 0 = .ok (.new 205, 3) := dk_187 0 205 (dk_at dksX5_entries_0 0 rfl rfl)
theorem dX5_entries_3 : decode cX5_entries 3 = .ok (.dup, 1) := dk_89 (dk_at dksX5_entries_0 3 rfl rfl)
theorem dX5_entries_4 : decode cX5_entries 4 = .ok (.invokespecial 207, 3) := dk_183 0 207 (dk_at dksX5_entries_0 4 rfl rfl)
theorem dX5_entries_7 : decode cX5_entries 7 = .ok (.astore_n 1, 1) := dk_76 (dk_at dksX5_entries_0 7 rfl rfl)
theorem dX5_entries_8 : decode cX5_entries 8 = .ok (.aload_n 0, 1) := dk_42 (dk_at dksX5_entries_0 8 rfl rfl)
theorem dX5_entries_9 : decode cX5_entries 9 = .ok (.invokevirtual 131, 3) := dk_182 0 131 (dk_at dksX5_entries_0 9 rfl rfl)
theorem dX5_entries_12 : decode cX5_entries 12 = .ok (.aload_n 0, 1) := dk_42 (dk_at dksX5_entries_0 12 rfl rfl)
theorem dX5_entries_13 : decode cX5_entries 13 = .ok (.getfield 120, 3) := dk_180 0 120 (dk_at dksX5_entries_0 13 rfl rfl)
theorem dX5_entries_16 : decode cX5_entries 16 = .ok (.ifCond .eq 95, 3) := dk_153 0 95 (dk_at dksX5_entries_0 16 rfl rfl)
theorem dX5_entries_19 : decode cX5_entries 19 = .ok (.aload_n 0, 1) := dk_42 (dk_at dksX5_entries_0 19 rfl rfl)
theorem dX5_entries_20 : decode cX5_entries 20 = .ok (.getfield 120, 3) := dk_180 0 120 (dk_at dksX5_entries_0 20 rfl rfl)
theorem dX5_entries_23 : decode cX5_entries 23 = .ok (.bipush 10, 2) := dk_16 10 (dk_at dksX5_entries_1 0 rfl rfl)
theorem dX5_entries_25 : decode cX5_entries 25 = .ok (.if_icmp .eq 16, 3) := dk_159 0 16 (dk_at dksX5_entries_1 2 rfl rfl)
theorem dX5_entries_28 : decode cX5_entries 28 = .ok (.new 123, 3) := dk_187 0 123 (dk_at dksX5_entries_1 5 rfl rfl)
theorem dX5_entries_31 : decode cX5_entries 31 = .ok (.dup, 1) := dk_89 (dk_at dksX5_entries_1 8 rfl rfl)
theorem dX5_entries_32 : decode cX5_entries 32 = .ok (.iconst 1, 1) := dk_4 (dk_at dksX5_entries_1 9 rfl rfl)
theorem dX5_entries_33 : decode cX5_entries 33 = .ok (.aload_n 0, 1) := dk_42 (dk_at dksX5_entries_1 10 rfl rfl)
theorem dX5_entries_34 : decode cX5_entries 34 = .ok (.getfield 41, 3) := dk_180 0 41 (dk_at dksX5_entries_1 11 rfl rfl)
theorem dX5_entries_37 : decode cX5_entries 37 = .ok (.invokespecial 125, 3) := dk_183 0 125 (dk_at dksX5_entries_1 14 rfl rfl)
theorem dX5_entries_40 : decode cX5_entries 40 = .ok (.athrow, 1) := dk_191 (dk_at dksX5_entries_1 17 rfl rfl)
theorem dX5_entries_41 : decode cX5_entries 41 = .ok (.aload_n 1, 1) := dk_43 (dk_at dksX5_entries_1 18 rfl rfl)
theorem dX5_entries_42 : decode cX5_entries 42 = .ok (.invokevirtual 208, 3) := dk_182 0 208 (dk_at dksX5_entries_1 19 rfl rfl)
theorem dX5_entries_45 : decode cX5_entries 45 = .ok (.bipush 16, 2) := dk_16 16 (dk_at dksX5_entries_1 22 rfl rfl)
theorem dX5_entries_47 : decode cX5_entries 47 = .ok (.if_icmp .ne 16, 3) := dk_160 0 16 (dk_at dksX5_entries_2 0 rfl rfl)
theorem dX5_entries_50 : decode cX5_entries 50 = .ok (.new 123, 3) := dk_187 0 123 (dk_at dksX5_entries_2 3 rfl rfl)
theorem dX5_entries_53 : decode cX5_entries 53 = .ok (.dup, 1) := dk_89 (dk_at dksX5_entries_2 6 rfl rfl)
theorem dX5_entries_54 : decode cX5_entries 54 = .ok (.iconst 3, 1) := dk_6 (dk_at dksX5_entries_2 7 rfl rfl)
theorem dX5_entries_55 : decode cX5_entries 55 = .ok (.aload_n 0, 1) := dk_42 (dk_at dksX5_entries_2 8 rfl rfl)
theorem dX5_entries_56 : decode cX5_entries 56 = .ok (.getfield 41, 3) := dk_180 0 41 (dk_at dksX5_entries_2 9 rfl rfl)
theorem dX5_entries_59 : decode cX5_entries 59 = .ok (.invokespecial 125, 3) := dk_183 0 125 (dk_at dksX5_entries_2 12 rfl rfl)
theorem dX5_entries_62 : decode cX5_entries 62 = .ok (.athrow, 1) := dk_191 (dk_at dksX5_entries_2 15 rfl rfl)
theorem dX5_entries_63 : decode cX5_entries 63 = .ok (.aload_n 0, 1) := dk_42 (dk_at dksX5_entries_2 16 rfl rfl)
theorem dX5_entries_64 : decode cX5_entries 64 = .ok (.invokevirtual 131, 3) := dk_182 0 131 (dk_at dksX5_entries_2 17 rfl rfl)
theorem dX5_entries_67 : decode cX5_entries 67 = .ok (.aload_n 0, 1) := dk_42 (dk_at dksX5_entries_2 20 rfl rfl)
theorem dX5_entries_68 : decode cX5_entries 68 = .ok (.iconst 0, 1) := dk_3 (dk_at dksX5_entries_2 21 rfl rfl)
theorem dX5_entries_69 : decode cX5_entries 69 = .ok (.sipush 999, 3) := dk_17 3 231 (dk_at dksX5_entries_3 0 rfl rfl)
theorem dX5_entries_72 : decode cX5_entries 72 = .ok (.invokevirtual 142, 3) := dk_182 0 142 (dk_at dksX5_entries_3 3 rfl rfl)
theorem dX5_entries_75 : decode cX5_entries 75 = .ok (.istore_n 2, 1) := dk_61 (dk_at dksX5_entries_3 6 rfl rfl)
theorem dX5_entries_76 : decode cX5_entries 76 = .ok (.aload_n 1, 1) := dk_43 (dk_at dksX5_entries_3 7 rfl rfl)
theorem dX5_entries_77 : decode cX5_entries 77 = .ok (.aload_n 0, 1) := dk_42 (dk_at dksX5_entries_3 8 rfl rfl)
theorem dX5_entries_78 : decode cX5_entries 78 = .ok (.getfield 19, 3) := dk_180 0 19 (dk_at dksX5_entries_3 9 rfl rfl)
theorem dX5_entries_81 : decode cX5_entries 81 = .ok (.iconst 1, 1) := dk_4 (dk_at dksX5_entries_3 12 rfl rfl)
theorem dX5_entries_82 : decode cX5_entries 82 = .ok (.if_icmp .ne 11, 3) := dk_160 0 11 (dk_at dksX5_entries_3 13 rfl rfl)
theorem dX5_entries_85 : decode cX5_entries 85 = .ok (.aload_n 0, 1) := dk_42 (dk_at dksX5_entries_3 16 rfl rfl)
theorem dX5_entries_86 : decode cX5_entries 86 = .ok (.iload_n 2, 1) := dk_28 (dk_at dksX5_entries_3 17 rfl rfl)
theorem dX5_entries_87 : decode cX5_entries 87 = .ok (.invokevirtual 244, 3) := dk_182 0 244 (dk_at dksX5_entries_3 18 rfl rfl)
theorem dX5_entries_90 : decode cX5_entries 90 = .ok (.goto 8, 3) := dk_167 0 8 (dk_at dksX5_entries_3 21 rfl rfl)
theorem dX5_entries_93 : decode cX5_entries 93 = .ok (.aload_n 0, 1) := dk_42 (dk_at dksX5_entries_4 0 rfl rfl)
theorem dX5_entries_94 : decode cX5_entries 94 = .ok (.iload_n 2, 1) := dk_28 (dk_at dksX5_entries_4 1 rfl rfl)
theorem dX5_entries_95 : decode cX5_entries 95 = .ok (.invokevirtual 248, 3) := dk_182 0 248 (dk_at dksX5_entries_4 2 rfl rfl)
theorem dX5_entries_98 : decode cX5_entries 98 = .ok (.invokevirtual 216, 3) := dk_182 0 216 (dk_at dksX5_entries_4 5 rfl rfl)
theorem dX5_entries_101 : decode cX5_entries 101 = .ok (.pop, 1) := dk_87 (dk_at dksX5_entries_4 8 rfl rfl)
theorem dX5_entries_102 : decode cX5_entries 102 = .ok (.aload_n 0, 1) := dk_42 (dk_at dksX5_entries_4 9 rfl rfl)
theorem dX5_entries_103 : decode cX5_entries 103 = .ok (.bipush 59, 2) := dk_16 59 (dk_at dksX5_entries_4 10 rfl rfl)
theorem dX5_entries_105 : decode cX5_entries 105 = .ok (.invokevirtual 200, 3) := dk_182 0 200 (dk_at dksX5_entries_4 12 rfl rfl)
theorem dX5_entries_108 : decode cX5_entries 108 = .ok (.goto (-96), 3) := dk_167 255 160 (dk_at dksX5_entries_4 15 rfl rfl)
theorem dX5_entries_111 : decode cX5_entries 111 = .ok (.aload_n 1, 1) := dk_43 (dk_at dksX5_entries_4 18 rfl rfl)
theorem dX5_entries_112 : decode cX5_entries 112 = .ok (.areturn, 1) := dk_176 (dk_at dksX5_entries_4 19 rfl rfl)
abbrev cX5_weather : ByteArray := prog_17_method_23_code
def yX5_weather : MethodName := ⟨RX5, "weather", "(I)LGingerRents$Entry;"⟩
def dkwX5_weather_3 : List UInt8 := [167, 0, 4, 3, 183, 0, 225, 176]
abbrev dktX5_weather_3 : List UInt8 := dkwX5_weather_3 ++ []
def dkwX5_weather_2 : List UInt8 := [16, 9, 182, 0, 142, 183, 0, 222, 167, 0, 22, 187, 0, 223, 89, 27, 28, 16, 12, 160, 0, 7, 4]
abbrev dktX5_weather_2 : List UInt8 := dkwX5_weather_2 ++ dktX5_weather_3
def dkwX5_weather_1 : List UInt8 := [180, 0, 41, 183, 0, 125, 191, 42, 182, 0, 131, 28, 16, 11, 160, 0, 21, 187, 0, 220, 89, 27, 42, 3]
abbrev dktX5_weather_1 : List UInt8 := dkwX5_weather_1 ++ dktX5_weather_2
def dkwX5_weather_0 : List UInt8 := [42, 180, 0, 120, 61, 28, 16, 11, 16, 13, 184, 0, 37, 154, 0, 16, 187, 0, 123, 89, 4, 42]
abbrev dktX5_weather_0 : List UInt8 := dkwX5_weather_0 ++ dktX5_weather_1
theorem dksX5_weather_0 : cX5_weather.data.toList.drop 0 = dktX5_weather_0 := by decide +kernel
theorem dksX5_weather_1 : cX5_weather.data.toList.drop 22 = dktX5_weather_1 := dk_seg dksX5_weather_0 22 rfl rfl
theorem dksX5_weather_2 : cX5_weather.data.toList.drop 46 = dktX5_weather_2 := dk_seg dksX5_weather_1 24 rfl rfl
theorem dksX5_weather_3 : cX5_weather.data.toList.drop 69 = dktX5_weather_3 := dk_seg dksX5_weather_2 23 rfl rfl
theorem dX5_weather_0 : decode cX5_weather 0 = .ok (.aload_n 0, 1) := dk_42 (dk_at dksX5_weather_0 0 rfl rfl)
theorem dX5_weather_1 : decode cX5_weather 1 = .ok (.getfield 120, 3) := dk_180 0 120 (dk_at dksX5_weather_0 1 rfl rfl)
theorem dX5_weather_4 : decode cX5_weather 4 = .ok (.istore_n 2, 1) := dk_61 (dk_at dksX5_weather_0 4 rfl rfl)
theorem dX5_weather_5 : decode cX5_weather 5 = .ok (.iload_n 2, 1) := dk_28 (dk_at dksX5_weather_0 5 rfl rfl)
theorem dX5_weather_6 : decode cX5_weather 6 = .ok (.bipush 11, 2) := dk_16 11 (dk_at dksX5_weather_0 6 rfl rfl)
theorem dX5_weather_8 : decode cX5_weather 8 = .ok (.bipush 13, 2) := dk_16 13 (dk_at dksX5_weather_0 8 rfl rfl)
theorem dX5_weather_10 : decode cX5_weather 10 = .ok (.invokestatic 37, 3) := dk_184 0 37 (dk_at dksX5_weather_0 10 rfl rfl)
theorem dX5_weather_13 : decode cX5_weather 13 = .ok (.ifCond .ne 16, 3) := dk_154 0 16 (dk_at dksX5_weather_0 13 rfl rfl)
theorem dX5_weather_16 : decode cX5_weather 16 = .ok (.new 123, 3) := dk_187 0 123 (dk_at dksX5_weather_0 16 rfl rfl)
theorem dX5_weather_19 : decode cX5_weather 19 = .ok (.dup, 1) := dk_89 (dk_at dksX5_weather_0 19 rfl rfl)
theorem dX5_weather_20 : decode cX5_weather 20 = .ok (.iconst 1, 1) := dk_4 (dk_at dksX5_weather_0 20 rfl rfl)
theorem dX5_weather_21 : decode cX5_weather 21 = .ok (.aload_n 0, 1) := dk_42 (dk_at dksX5_weather_0 21 rfl rfl)
theorem dX5_weather_22 : decode cX5_weather 22 = .ok (.getfield 41, 3) := dk_180 0 41 (dk_at dksX5_weather_1 0 rfl rfl)
theorem dX5_weather_25 : decode cX5_weather 25 = .ok (.invokespecial 125, 3) := dk_183 0 125 (dk_at dksX5_weather_1 3 rfl rfl)
theorem dX5_weather_28 : decode cX5_weather 28 = .ok (.athrow, 1) := dk_191 (dk_at dksX5_weather_1 6 rfl rfl)
theorem dX5_weather_29 : decode cX5_weather 29 = .ok (.aload_n 0, 1) := dk_42 (dk_at dksX5_weather_1 7 rfl rfl)
theorem dX5_weather_30 : decode cX5_weather 30 = .ok (.invokevirtual 131, 3) := dk_182 0 131 (dk_at dksX5_weather_1 8 rfl rfl)
theorem dX5_weather_33 : decode cX5_weather 33 = .ok (.iload_n 2, 1) := dk_28 (dk_at dksX5_weather_1 11 rfl rfl)
theorem dX5_weather_34 : decode cX5_weather 34 = .ok (.bipush 11, 2) := dk_16 11 (dk_at dksX5_weather_1 12 rfl rfl)
theorem dX5_weather_36 : decode cX5_weather 36 = .ok (.if_icmp .ne 21, 3) := dk_160 0 21 (dk_at dksX5_weather_1 14 rfl rfl)
theorem dX5_weather_39 : decode cX5_weather 39 = .ok (.new 220, 3) := dk_187 0 220 (dk_at dksX5_weather_1 17 rfl rfl)
theorem dX5_weather_42 : decode cX5_weather 42 = .ok (.dup, 1) := dk_89 (dk_at dksX5_weather_1 20 rfl rfl)
theorem dX5_weather_43 : decode cX5_weather 43 = .ok (.iload_n 1, 1) := dk_27 (dk_at dksX5_weather_1 21 rfl rfl)
theorem dX5_weather_44 : decode cX5_weather 44 = .ok (.aload_n 0, 1) := dk_42 (dk_at dksX5_weather_1 22 rfl rfl)
theorem dX5_weather_45 : decode cX5_weather 45 = .ok (.iconst 0, 1) := dk_3 (dk_at dksX5_weather_1 23 rfl rfl)
theorem dX5_weather_46 : decode cX5_weather 46 = .ok (.bipush 9, 2) := dk_16 9 (dk_at dksX5_weather_2 0 rfl rfl)
theorem dX5_weather_48 : decode cX5_weather 48 = .ok (.invokevirtual 142, 3) := dk_182 0 142 (dk_at dksX5_weather_2 2 rfl rfl)
theorem dX5_weather_51 : decode cX5_weather 51 = .ok (.invokespecial 222, 3) := dk_183 0 222 (dk_at dksX5_weather_2 5 rfl rfl)
theorem dX5_weather_54 : decode cX5_weather 54 = .ok (.goto 22, 3) := dk_167 0 22 (dk_at dksX5_weather_2 8 rfl rfl)
theorem dX5_weather_57 : decode cX5_weather 57 = .ok (.new 223, 3) := dk_187 0 223 (dk_at dksX5_weather_2 11 rfl rfl)
theorem dX5_weather_60 : decode cX5_weather 60 = .ok (.dup, 1) := dk_89 (dk_at dksX5_weather_2 14 rfl rfl)
theorem dX5_weather_61 : decode cX5_weather 61 = .ok (.iload_n 1, 1) := dk_27 (dk_at dksX5_weather_2 15 rfl rfl)
theorem dX5_weather_62 : decode cX5_weather 62 = .ok (.iload_n 2, 1) := dk_28 (dk_at dksX5_weather_2 16 rfl rfl)
theorem dX5_weather_63 : decode cX5_weather 63 = .ok (.bipush 12, 2) := dk_16 12 (dk_at dksX5_weather_2 17 rfl rfl)
theorem dX5_weather_65 : decode cX5_weather 65 = .ok (.if_icmp .ne 7, 3) := dk_160 0 7 (dk_at dksX5_weather_2 19 rfl rfl)
theorem dX5_weather_68 : decode cX5_weather 68 = .ok (.iconst 1, 1) := dk_4 (dk_at dksX5_weather_2 22 rfl rfl)
theorem dX5_weather_69 : decode cX5_weather 69 = .ok (.goto 4, 3) := dk_167 0 4 (dk_at dksX5_weather_3 0 rfl rfl)
theorem dX5_weather_72 : decode cX5_weather 72 = .ok (.iconst 0, 1) := dk_3 (dk_at dksX5_weather_3 3 rfl rfl)
theorem dX5_weather_73 : decode cX5_weather 73 = .ok (.invokespecial 225, 3) := dk_183 0 225 (dk_at dksX5_weather_3 4 rfl rfl)
theorem dX5_weather_76 : decode cX5_weather 76 = .ok (.areturn, 1) := dk_176 (dk_at dksX5_weather_3 7 rfl rfl)
abbrev cX5_order : ByteArray := prog_17_method_24_code
def yX5_order : MethodName := ⟨RX5, "order", "(I)LGingerRents$Entry;"⟩
def dkwX5_order_5 : List UInt8 := [89, 27, 29, 183, 0, 240, 176, 187, 0, 241, 89, 27, 29, 183, 0, 243, 176]
abbrev dktX5_order_5 : List UInt8 := dkwX5_order_5 ++ []
def dkwX5_order_4 : List UInt8 := [54, 4, 187, 0, 233, 89, 27, 29, 21, 4, 42, 4, 16, 99, 182, 0, 142, 183, 0, 235, 176, 187, 0, 238]
abbrev dktX5_order_4 : List UInt8 := dkwX5_order_4 ++ dktX5_order_5
def dkwX5_order_3 : List UInt8 := [187, 0, 228, 89, 27, 29, 42, 4, 16, 99, 182, 0, 142, 183, 0, 230, 176, 42, 3, 6, 182, 0, 142]
abbrev dktX5_order_3 : List UInt8 := dkwX5_order_3 ++ dktX5_order_4
def dkwX5_order_2 : List UInt8 := [170, 0, 0, 0, 79, 0, 0, 0, 14, 0, 0, 0, 16, 0, 0, 0, 25, 0, 0, 0, 42, 0, 0, 0, 69]
abbrev dktX5_order_2 : List UInt8 := dkwX5_order_2 ++ dktX5_order_3
def dkwX5_order_1 : List UInt8 := [180, 0, 41, 183, 0, 125, 191, 42, 182, 0, 131, 42, 182, 0, 226, 62, 28]
abbrev dktX5_order_1 : List UInt8 := dkwX5_order_1 ++ dktX5_order_2
def dkwX5_order_0 : List UInt8 := [42, 180, 0, 120, 61, 28, 16, 14, 16, 17, 184, 0, 37, 154, 0, 16, 187, 0, 123, 89, 4, 42]
abbrev dktX5_order_0 : List UInt8 := dkwX5_order_0 ++ dktX5_order_1
theorem dksX5_order_0 : cX5_order.data.toList.drop 0 = dktX5_order_0 := by decide +kernel
theorem dksX5_order_1 : cX5_order.data.toList.drop 22 = dktX5_order_1 := dk_seg dksX5_order_0 22 rfl rfl
theorem dksX5_order_2 : cX5_order.data.toList.drop 39 = dktX5_order_2 := dk_seg dksX5_order_1 17 rfl rfl
theorem dksX5_order_3 : cX5_order.data.toList.drop 64 = dktX5_order_3 := dk_seg dksX5_order_2 25 rfl rfl
theorem dksX5_order_4 : cX5_order.data.toList.drop 87 = dktX5_order_4 := dk_seg dksX5_order_3 23 rfl rfl
theorem dksX5_order_5 : cX5_order.data.toList.drop 111 = dktX5_order_5 := dk_seg dksX5_order_4 24 rfl rfl
theorem dX5_order_0 : decode cX5_order 0 = .ok (.aload_n 0, 1) := dk_42 (dk_at dksX5_order_0 0 rfl rfl)
theorem dX5_order_1 : decode cX5_order 1 = .ok (.getfield 120, 3) := dk_180 0 120 (dk_at dksX5_order_0 1 rfl rfl)
theorem dX5_order_4 : decode cX5_order 4 = .ok (.istore_n 2, 1) := dk_61 (dk_at dksX5_order_0 4 rfl rfl)
theorem dX5_order_5 : decode cX5_order 5 = .ok (.iload_n 2, 1) := dk_28 (dk_at dksX5_order_0 5 rfl rfl)
theorem dX5_order_6 : decode cX5_order 6 = .ok (.bipush 14, 2) := dk_16 14 (dk_at dksX5_order_0 6 rfl rfl)
theorem dX5_order_8 : decode cX5_order 8 = .ok (.bipush 17, 2) := dk_16 17 (dk_at dksX5_order_0 8 rfl rfl)
theorem dX5_order_10 : decode cX5_order 10 = .ok (.invokestatic 37, 3) := dk_184 0 37 (dk_at dksX5_order_0 10 rfl rfl)
theorem dX5_order_13 : decode cX5_order 13 = .ok (.ifCond .ne 16, 3) := dk_154 0 16 (dk_at dksX5_order_0 13 rfl rfl)
theorem dX5_order_16 : decode cX5_order 16 = .ok (.new 123, 3) := dk_187 0 123 (dk_at dksX5_order_0 16 rfl rfl)
theorem dX5_order_19 : decode cX5_order 19 = .ok (.dup, 1) := dk_89 (dk_at dksX5_order_0 19 rfl rfl)
theorem dX5_order_20 : decode cX5_order 20 = .ok (.iconst 1, 1) := dk_4 (dk_at dksX5_order_0 20 rfl rfl)
theorem dX5_order_21 : decode cX5_order 21 = .ok (.aload_n 0, 1) := dk_42 (dk_at dksX5_order_0 21 rfl rfl)
theorem dX5_order_22 : decode cX5_order 22 = .ok (.getfield 41, 3) := dk_180 0 41 (dk_at dksX5_order_1 0 rfl rfl)
theorem dX5_order_25 : decode cX5_order 25 = .ok (.invokespecial 125, 3) := dk_183 0 125 (dk_at dksX5_order_1 3 rfl rfl)
theorem dX5_order_28 : decode cX5_order 28 = .ok (.athrow, 1) := dk_191 (dk_at dksX5_order_1 6 rfl rfl)
theorem dX5_order_29 : decode cX5_order 29 = .ok (.aload_n 0, 1) := dk_42 (dk_at dksX5_order_1 7 rfl rfl)
theorem dX5_order_30 : decode cX5_order 30 = .ok (.invokevirtual 131, 3) := dk_182 0 131 (dk_at dksX5_order_1 8 rfl rfl)
theorem dX5_order_33 : decode cX5_order 33 = .ok (.aload_n 0, 1) := dk_42 (dk_at dksX5_order_1 11 rfl rfl)
theorem dX5_order_34 : decode cX5_order 34 = .ok (.invokevirtual 226, 3) := dk_182 0 226 (dk_at dksX5_order_1 12 rfl rfl)
theorem dX5_order_37 : decode cX5_order 37 = .ok (.istore_n 3, 1) := dk_62 (dk_at dksX5_order_1 15 rfl rfl)
theorem dX5_order_38 : decode cX5_order 38 = .ok (.iload_n 2, 1) := dk_28 (dk_at dksX5_order_1 16 rfl rfl)
theorem dX5_order_39 : decode cX5_order 39 = .ok (.tableswitch 79 14 16 #[25, 42, 69], 25) := by decide +kernel
theorem dX5_order_64 : decode cX5_order 64 = .ok (.new 228, 3) := dk_187 0 228 (dk_at dksX5_order_3 0 rfl rfl)
theorem dX5_order_67 : decode cX5_order 67 = .ok (.dup, 1) := dk_89 (dk_at dksX5_order_3 3 rfl rfl)
theorem dX5_order_68 : decode cX5_order 68 = .ok (.iload_n 1, 1) := dk_27 (dk_at dksX5_order_3 4 rfl rfl)
theorem dX5_order_69 : decode cX5_order 69 = .ok (.iload_n 3, 1) := dk_29 (dk_at dksX5_order_3 5 rfl rfl)
theorem dX5_order_70 : decode cX5_order 70 = .ok (.aload_n 0, 1) := dk_42 (dk_at dksX5_order_3 6 rfl rfl)
theorem dX5_order_71 : decode cX5_order 71 = .ok (.iconst 1, 1) := dk_4 (dk_at dksX5_order_3 7 rfl rfl)
theorem dX5_order_72 : decode cX5_order 72 = .ok (.bipush 99, 2) := dk_16 99 (dk_at dksX5_order_3 8 rfl rfl)
theorem dX5_order_74 : decode cX5_order 74 = .ok (.invokevirtual 142, 3) := dk_182 0 142 (dk_at dksX5_order_3 10 rfl rfl)
theorem dX5_order_77 : decode cX5_order 77 = .ok (.invokespecial 230, 3) := dk_183 0 230 (dk_at dksX5_order_3 13 rfl rfl)
theorem dX5_order_80 : decode cX5_order 80 = .ok (.areturn, 1) := dk_176 (dk_at dksX5_order_3 16 rfl rfl)
theorem dX5_order_81 : decode cX5_order 81 = .ok (.aload_n 0, 1) := dk_42 (dk_at dksX5_order_3 17 rfl rfl)
theorem dX5_order_82 : decode cX5_order 82 = .ok (.iconst 0, 1) := dk_3 (dk_at dksX5_order_3 18 rfl rfl)
theorem dX5_order_83 : decode cX5_order 83 = .ok (.iconst 3, 1) := dk_6 (dk_at dksX5_order_3 19 rfl rfl)
theorem dX5_order_84 : decode cX5_order 84 = .ok (.invokevirtual 142, 3) := dk_182 0 142 (dk_at dksX5_order_3 20 rfl rfl)
theorem dX5_order_87 : decode cX5_order 87 = .ok (.istore 4, 2) := dk_54 4 (dk_at dksX5_order_4 0 rfl rfl)
theorem dX5_order_89 : decode cX5_order 89 = .ok (.new 233, 3) := dk_187 0 233 (dk_at dksX5_order_4 2 rfl rfl)
theorem dX5_order_92 : decode cX5_order 92 = .ok (.dup, 1) := dk_89 (dk_at dksX5_order_4 5 rfl rfl)
theorem dX5_order_93 : decode cX5_order 93 = .ok (.iload_n 1, 1) := dk_27 (dk_at dksX5_order_4 6 rfl rfl)
theorem dX5_order_94 : decode cX5_order 94 = .ok (.iload_n 3, 1) := dk_29 (dk_at dksX5_order_4 7 rfl rfl)
theorem dX5_order_95 : decode cX5_order 95 = .ok (.iload 4, 2) := dk_21 4 (dk_at dksX5_order_4 8 rfl rfl)
theorem dX5_order_97 : decode cX5_order 97 = .ok (.aload_n 0, 1) := dk_42 (dk_at dksX5_order_4 10 rfl rfl)
theorem dX5_order_98 : decode cX5_order 98 = .ok (.iconst 1, 1) := dk_4 (dk_at dksX5_order_4 11 rfl rfl)
theorem dX5_order_99 : decode cX5_order 99 = .ok (.bipush 99, 2) := dk_16 99 (dk_at dksX5_order_4 12 rfl rfl)
theorem dX5_order_101 : decode cX5_order 101 = .ok (.invokevirtual 142, 3) := dk_182 0 142 (dk_at dksX5_order_4 14 rfl rfl)
theorem dX5_order_104 : decode cX5_order 104 = .ok (.invokespecial 235, 3) := dk_183 0 235 (dk_at dksX5_order_4 17 rfl rfl)
theorem dX5_order_107 : decode cX5_order 107 = .ok (.areturn, 1) := dk_176 (dk_at dksX5_order_4 20 rfl rfl)
theorem dX5_order_108 : decode cX5_order 108 = .ok (.new 238, 3) := dk_187 0 238 (dk_at dksX5_order_4 21 rfl rfl)
theorem dX5_order_111 : decode cX5_order 111 = .ok (.dup, 1) := dk_89 (dk_at dksX5_order_5 0 rfl rfl)
theorem dX5_order_112 : decode cX5_order 112 = .ok (.iload_n 1, 1) := dk_27 (dk_at dksX5_order_5 1 rfl rfl)
theorem dX5_order_113 : decode cX5_order 113 = .ok (.iload_n 3, 1) := dk_29 (dk_at dksX5_order_5 2 rfl rfl)
theorem dX5_order_114 : decode cX5_order 114 = .ok (.invokespecial 240, 3) := dk_183 0 240 (dk_at dksX5_order_5 3 rfl rfl)
theorem dX5_order_117 : decode cX5_order 117 = .ok (.areturn, 1) := dk_176 (dk_at dksX5_order_5 6 rfl rfl)
theorem dX5_order_118 : decode cX5_order 118 = .ok (.new 241, 3) := dk_187 0 241 (dk_at dksX5_order_5 7 rfl rfl)
theorem dX5_order_121 : decode cX5_order 121 = .ok (.dup, 1) := dk_89 (dk_at dksX5_order_5 10 rfl rfl)
theorem dX5_order_122 : decode cX5_order 122 = .ok (.iload_n 1, 1) := dk_27 (dk_at dksX5_order_5 11 rfl rfl)
theorem dX5_order_123 : decode cX5_order 123 = .ok (.iload_n 3, 1) := dk_29 (dk_at dksX5_order_5 12 rfl rfl)
theorem dX5_order_124 : decode cX5_order 124 = .ok (.invokespecial 243, 3) := dk_183 0 243 (dk_at dksX5_order_5 13 rfl rfl)
theorem dX5_order_127 : decode cX5_order 127 = .ok (.areturn, 1) := dk_176 (dk_at dksX5_order_5 16 rfl rfl)
abbrev cX5_house : ByteArray := prog_17_method_11_code
def yX5_house : MethodName := ⟨RX5, "house", "()I"⟩
def dkwX5_house_0 : List UInt8 := [42, 3, 42, 180, 0, 3, 180, 0, 133, 180, 0, 137, 4, 100, 182, 0, 142, 172]
abbrev dktX5_house_0 : List UInt8 := dkwX5_house_0 ++ []
theorem dksX5_house_0 : cX5_house.data.toList.drop 0 = dktX5_house_0 := by decide +kernel
theorem dX5_house_0 : decode cX5_house 0 = .ok (.aload_n 0, 1) := dk_42 (dk_at dksX5_house_0 0 rfl rfl)
theorem dX5_house_1 : decode cX5_house 1 = .ok (.iconst 0, 1) := dk_3 (dk_at dksX5_house_0 1 rfl rfl)
theorem dX5_house_2 : decode cX5_house 2 = .ok (.aload_n 0, 1) := dk_42 (dk_at dksX5_house_0 2 rfl rfl)
theorem dX5_house_3 : decode cX5_house 3 = .ok (.getfield 3, 3) := dk_180 0 3 (dk_at dksX5_house_0 3 rfl rfl)
theorem dX5_house_6 : decode cX5_house 6 = .ok (.getfield 133, 3) := dk_180 0 133 (dk_at dksX5_house_0 6 rfl rfl)
theorem dX5_house_9 : decode cX5_house 9 = .ok (.getfield 137, 3) := dk_180 0 137 (dk_at dksX5_house_0 9 rfl rfl)
theorem dX5_house_12 : decode cX5_house 12 = .ok (.iconst 1, 1) := dk_4 (dk_at dksX5_house_0 12 rfl rfl)
theorem dX5_house_13 : decode cX5_house 13 = .ok (.isub, 1) := dk_100 (dk_at dksX5_house_0 13 rfl rfl)
theorem dX5_house_14 : decode cX5_house 14 = .ok (.invokevirtual 142, 3) := dk_182 0 142 (dk_at dksX5_house_0 14 rfl rfl)
theorem dX5_house_17 : decode cX5_house 17 = .ok (.ireturn, 1) := dk_172 (dk_at dksX5_house_0 17 rfl rfl)
abbrev cX5_neighbours : ByteArray := prog_17_method_26_code
def yX5_neighbours : MethodName := ⟨RX5, "neighbours", "()[I"⟩
def dkwX5_neighbours_6 : List UInt8 := [181, 0, 251, 167, 255, 116, 42, 180, 0, 15, 176]
abbrev dktX5_neighbours_6 : List UInt8 := dkwX5_neighbours_6 ++ []
def dkwX5_neighbours_5 : List UInt8 := [120, 128, 79, 42, 180, 0, 15, 28, 92, 46, 4, 27, 120, 128, 79, 42, 89, 180, 0, 251, 4, 96]
abbrev dktX5_neighbours_5 : List UInt8 := dkwX5_neighbours_5 ++ dktX5_neighbours_6
def dkwX5_neighbours_4 : List UInt8 := [183, 0, 125, 191, 42, 182, 0, 226, 61, 42, 16, 59, 182, 0, 200, 42, 180, 0, 15, 27, 92, 46, 4, 28]
abbrev dktX5_neighbours_4 : List UInt8 := dkwX5_neighbours_4 ++ dktX5_neighbours_5
def dkwX5_neighbours_3 : List UInt8 := [180, 0, 120, 5, 160, 0, 24, 42, 180, 0, 128, 27, 160, 0, 16, 187, 0, 123, 89, 5, 42, 180, 0, 41]
abbrev dktX5_neighbours_3 : List UInt8 := dkwX5_neighbours_3 ++ dktX5_neighbours_4
def dkwX5_neighbours_2 : List UInt8 := [180, 0, 41, 183, 0, 125, 191, 42, 182, 0, 131, 42, 182, 0, 226, 60, 42, 16, 19, 182, 0, 200, 42]
abbrev dktX5_neighbours_2 : List UInt8 := dkwX5_neighbours_2 ++ dktX5_neighbours_3
def dkwX5_neighbours_1 : List UInt8 := [4, 42, 180, 0, 41, 183, 0, 125, 191, 42, 180, 0, 251, 16, 16, 160, 0, 16, 187, 0, 123, 89, 6, 42]
abbrev dktX5_neighbours_1 : List UInt8 := dkwX5_neighbours_1 ++ dktX5_neighbours_2
def dkwX5_neighbours_0 : List UInt8 := [42, 182, 0, 131, 42, 180, 0, 120, 153, 0, 139, 42, 180, 0, 120, 16, 18, 159, 0, 16, 187, 0, 123, 89]
abbrev dktX5_neighbours_0 : List UInt8 := dkwX5_neighbours_0 ++ dktX5_neighbours_1
theorem dksX5_neighbours_0 : cX5_neighbours.data.toList.drop 0 = dktX5_neighbours_0 := by decide +kernel
theorem dksX5_neighbours_1 : cX5_neighbours.data.toList.drop 24 = dktX5_neighbours_1 := dk_seg dksX5_neighbours_0 24 rfl rfl
theorem dksX5_neighbours_2 : cX5_neighbours.data.toList.drop 48 = dktX5_neighbours_2 := dk_seg dksX5_neighbours_1 24 rfl rfl
theorem dksX5_neighbours_3 : cX5_neighbours.data.toList.drop 71 = dktX5_neighbours_3 := dk_seg dksX5_neighbours_2 23 rfl rfl
theorem dksX5_neighbours_4 : cX5_neighbours.data.toList.drop 95 = dktX5_neighbours_4 := dk_seg dksX5_neighbours_3 24 rfl rfl
theorem dksX5_neighbours_5 : cX5_neighbours.data.toList.drop 119 = dktX5_neighbours_5 := dk_seg dksX5_neighbours_4 24 rfl rfl
theorem dksX5_neighbours_6 : cX5_neighbours.data.toList.drop 141 = dktX5_neighbours_6 := dk_seg dksX5_neighbours_5 22 rfl rfl
theorem dX5_neighbours_0 : decode cX5_neighbours 0 = .ok (.aload_n 0, 1) := dk_42 (dk_at dksX5_neighbours_0 0 rfl rfl)
theorem dX5_neighbours_1 : decode cX5_neighbours 1 = .ok (.invokevirtual 131, 3) := dk_182 0 131 (dk_at dksX5_neighbours_0 1 rfl rfl)
theorem dX5_neighbours_4 : decode cX5_neighbours 4 = .ok (.aload_n 0, 1) := dk_42 (dk_at dksX5_neighbours_0 4 rfl rfl)
theorem dX5_neighbours_5 : decode cX5_neighbours 5 = .ok (.getfield 120, 3) := dk_180 0 120 (dk_at dksX5_neighbours_0 5 rfl rfl)
theorem dX5_neighbours_8 : decode cX5_neighbours 8 = .ok (.ifCond .eq 139, 3) := dk_153 0 139 (dk_at dksX5_neighbours_0 8 rfl rfl)
theorem dX5_neighbours_11 : decode cX5_neighbours 11 = .ok (.aload_n 0, 1) := dk_42 (dk_at dksX5_neighbours_0 11 rfl rfl)
theorem dX5_neighbours_12 : decode cX5_neighbours 12 = .ok (.getfield 120, 3) := dk_180 0 120 (dk_at dksX5_neighbours_0 12 rfl rfl)
theorem dX5_neighbours_15 : decode cX5_neighbours 15 = .ok (.bipush 18, 2) := dk_16 18 (dk_at dksX5_neighbours_0 15 rfl rfl)
theorem dX5_neighbours_17 : decode cX5_neighbours 17 = .ok (.if_icmp .eq 16, 3) := dk_159 0 16 (dk_at dksX5_neighbours_0 17 rfl rfl)
theorem dX5_neighbours_20 : decode cX5_neighbours 20 = .ok (.new 123, 3) := dk_187 0 123 (dk_at dksX5_neighbours_0 20 rfl rfl)
theorem dX5_neighbours_23 : decode cX5_neighbours 23 = .ok (.dup, 1) := dk_89 (dk_at dksX5_neighbours_0 23 rfl rfl)
theorem dX5_neighbours_24 : decode cX5_neighbours 24 = .ok (.iconst 1, 1) := dk_4 (dk_at dksX5_neighbours_1 0 rfl rfl)
theorem dX5_neighbours_25 : decode cX5_neighbours 25 = .ok (.aload_n 0, 1) := dk_42 (dk_at dksX5_neighbours_1 1 rfl rfl)
theorem dX5_neighbours_26 : decode cX5_neighbours 26 = .ok (.getfield 41, 3) := dk_180 0 41 (dk_at dksX5_neighbours_1 2 rfl rfl)
theorem dX5_neighbours_29 : decode cX5_neighbours 29 = .ok (.invokespecial 125, 3) := dk_183 0 125 (dk_at dksX5_neighbours_1 5 rfl rfl)
theorem dX5_neighbours_32 : decode cX5_neighbours 32 = .ok (.athrow, 1) := dk_191 (dk_at dksX5_neighbours_1 8 rfl rfl)
theorem dX5_neighbours_33 : decode cX5_neighbours 33 = .ok (.aload_n 0, 1) := dk_42 (dk_at dksX5_neighbours_1 9 rfl rfl)
theorem dX5_neighbours_34 : decode cX5_neighbours 34 = .ok (.getfield 251, 3) := dk_180 0 251 (dk_at dksX5_neighbours_1 10 rfl rfl)
theorem dX5_neighbours_37 : decode cX5_neighbours 37 = .ok (.bipush 16, 2) := dk_16 16 (dk_at dksX5_neighbours_1 13 rfl rfl)
theorem dX5_neighbours_39 : decode cX5_neighbours 39 = .ok (.if_icmp .ne 16, 3) := dk_160 0 16 (dk_at dksX5_neighbours_1 15 rfl rfl)
theorem dX5_neighbours_42 : decode cX5_neighbours 42 = .ok (.new 123, 3) := dk_187 0 123 (dk_at dksX5_neighbours_1 18 rfl rfl)
theorem dX5_neighbours_45 : decode cX5_neighbours 45 = .ok (.dup, 1) := dk_89 (dk_at dksX5_neighbours_1 21 rfl rfl)
theorem dX5_neighbours_46 : decode cX5_neighbours 46 = .ok (.iconst 3, 1) := dk_6 (dk_at dksX5_neighbours_1 22 rfl rfl)
theorem dX5_neighbours_47 : decode cX5_neighbours 47 = .ok (.aload_n 0, 1) := dk_42 (dk_at dksX5_neighbours_1 23 rfl rfl)
theorem dX5_neighbours_48 : decode cX5_neighbours 48 = .ok (.getfield 41, 3) := dk_180 0 41 (dk_at dksX5_neighbours_2 0 rfl rfl)
theorem dX5_neighbours_51 : decode cX5_neighbours 51 = .ok (.invokespecial 125, 3) := dk_183 0 125 (dk_at dksX5_neighbours_2 3 rfl rfl)
theorem dX5_neighbours_54 : decode cX5_neighbours 54 = .ok (.athrow, 1) := dk_191 (dk_at dksX5_neighbours_2 6 rfl rfl)
theorem dX5_neighbours_55 : decode cX5_neighbours 55 = .ok (.aload_n 0, 1) := dk_42 (dk_at dksX5_neighbours_2 7 rfl rfl)
theorem dX5_neighbours_56 : decode cX5_neighbours 56 = .ok (.invokevirtual 131, 3) := dk_182 0 131 (dk_at dksX5_neighbours_2 8 rfl rfl)
theorem dX5_neighbours_59 : decode cX5_neighbours 59 = .ok (.aload_n 0, 1) := dk_42 (dk_at dksX5_neighbours_2 11 rfl rfl)
theorem dX5_neighbours_60 : decode cX5_neighbours 60 = .ok (.invokevirtual 226, 3) := dk_182 0 226 (dk_at dksX5_neighbours_2 12 rfl rfl)
theorem dX5_neighbours_63 : decode cX5_neighbours 63 = .ok (.istore_n 1, 1) := dk_60 (dk_at dksX5_neighbours_2 15 rfl rfl)
theorem dX5_neighbours_64 : decode cX5_neighbours 64 = .ok (.aload_n 0, 1) := dk_42 (dk_at dksX5_neighbours_2 16 rfl rfl)
theorem dX5_neighbours_65 : decode cX5_neighbours 65 = .ok (.bipush 19, 2) := dk_16 19 (dk_at dksX5_neighbours_2 17 rfl rfl)
theorem dX5_neighbours_67 : decode cX5_neighbours 67 = .ok (.invokevirtual 200, 3) := dk_182 0 200 (dk_at dksX5_neighbours_2 19 rfl rfl)
theorem dX5_neighbours_70 : decode cX5_neighbours 70 = .ok (.aload_n 0, 1) := dk_42 (dk_at dksX5_neighbours_2 22 rfl rfl)
theorem dX5_neighbours_71 : decode cX5_neighbours 71 = .ok (.getfield 120, 3) := dk_180 0 120 (dk_at dksX5_neighbours_3 0 rfl rfl)
theorem dX5_neighbours_74 : decode cX5_neighbours 74 = .ok (.iconst 2, 1) := dk_5 (dk_at dksX5_neighbours_3 3 rfl rfl)
theorem dX5_neighbours_75 : decode cX5_neighbours 75 = .ok (.if_icmp .ne 24, 3) := dk_160 0 24 (dk_at dksX5_neighbours_3 4 rfl rfl)
theorem dX5_neighbours_78 : decode cX5_neighbours 78 = .ok (.aload_n 0, 1) := dk_42 (dk_at dksX5_neighbours_3 7 rfl rfl)
theorem dX5_neighbours_79 : decode cX5_neighbours 79 = .ok (.getfield 128, 3) := dk_180 0 128 (dk_at dksX5_neighbours_3 8 rfl rfl)
theorem dX5_neighbours_82 : decode cX5_neighbours 82 = .ok (.iload_n 1, 1) := dk_27 (dk_at dksX5_neighbours_3 11 rfl rfl)
theorem dX5_neighbours_83 : decode cX5_neighbours 83 = .ok (.if_icmp .ne 16, 3) := dk_160 0 16 (dk_at dksX5_neighbours_3 12 rfl rfl)
theorem dX5_neighbours_86 : decode cX5_neighbours 86 = .ok (.new 123, 3) := dk_187 0 123 (dk_at dksX5_neighbours_3 15 rfl rfl)
theorem dX5_neighbours_89 : decode cX5_neighbours 89 = .ok (.dup, 1) := dk_89 (dk_at dksX5_neighbours_3 18 rfl rfl)
theorem dX5_neighbours_90 : decode cX5_neighbours 90 = .ok (.iconst 2, 1) := dk_5 (dk_at dksX5_neighbours_3 19 rfl rfl)
theorem dX5_neighbours_91 : decode cX5_neighbours 91 = .ok (.aload_n 0, 1) := dk_42 (dk_at dksX5_neighbours_3 20 rfl rfl)
theorem dX5_neighbours_92 : decode cX5_neighbours 92 = .ok (.getfield 41, 3) := dk_180 0 41 (dk_at dksX5_neighbours_3 21 rfl rfl)
theorem dX5_neighbours_95 : decode cX5_neighbours 95 = .ok (.invokespecial 125, 3) := dk_183 0 125 (dk_at dksX5_neighbours_4 0 rfl rfl)
theorem dX5_neighbours_98 : decode cX5_neighbours 98 = .ok (.athrow, 1) := dk_191 (dk_at dksX5_neighbours_4 3 rfl rfl)
theorem dX5_neighbours_99 : decode cX5_neighbours 99 = .ok (.aload_n 0, 1) := dk_42 (dk_at dksX5_neighbours_4 4 rfl rfl)
theorem dX5_neighbours_100 : decode cX5_neighbours 100 = .ok (.invokevirtual 226, 3) := dk_182 0 226 (dk_at dksX5_neighbours_4 5 rfl rfl)
theorem dX5_neighbours_103 : decode cX5_neighbours 103 = .ok (.istore_n 2, 1) := dk_61 (dk_at dksX5_neighbours_4 8 rfl rfl)
theorem dX5_neighbours_104 : decode cX5_neighbours 104 = .ok (.aload_n 0, 1) := dk_42 (dk_at dksX5_neighbours_4 9 rfl rfl)
theorem dX5_neighbours_105 : decode cX5_neighbours 105 = .ok (.bipush 59, 2) := dk_16 59 (dk_at dksX5_neighbours_4 10 rfl rfl)
theorem dX5_neighbours_107 : decode cX5_neighbours 107 = .ok (.invokevirtual 200, 3) := dk_182 0 200 (dk_at dksX5_neighbours_4 12 rfl rfl)
theorem dX5_neighbours_110 : decode cX5_neighbours 110 = .ok (.aload_n 0, 1) := dk_42 (dk_at dksX5_neighbours_4 15 rfl rfl)
theorem dX5_neighbours_111 : decode cX5_neighbours 111 = .ok (.getfield 15, 3) := dk_180 0 15 (dk_at dksX5_neighbours_4 16 rfl rfl)
theorem dX5_neighbours_114 : decode cX5_neighbours 114 = .ok (.iload_n 1, 1) := dk_27 (dk_at dksX5_neighbours_4 19 rfl rfl)
theorem dX5_neighbours_115 : decode cX5_neighbours 115 = .ok (.dup2, 1) := dk_92 (dk_at dksX5_neighbours_4 20 rfl rfl)
theorem dX5_neighbours_116 : decode cX5_neighbours 116 = .ok (.iaload, 1) := dk_46 (dk_at dksX5_neighbours_4 21 rfl rfl)
theorem dX5_neighbours_117 : decode cX5_neighbours 117 = .ok (.iconst 1, 1) := dk_4 (dk_at dksX5_neighbours_4 22 rfl rfl)
theorem dX5_neighbours_118 : decode cX5_neighbours 118 = .ok (.iload_n 2, 1) := dk_28 (dk_at dksX5_neighbours_4 23 rfl rfl)
theorem dX5_neighbours_119 : decode cX5_neighbours 119 = .ok (.ishl, 1) := dk_120 (dk_at dksX5_neighbours_5 0 rfl rfl)
theorem dX5_neighbours_120 : decode cX5_neighbours 120 = .ok (.ior, 1) := dk_128 (dk_at dksX5_neighbours_5 1 rfl rfl)
theorem dX5_neighbours_121 : decode cX5_neighbours 121 = .ok (.iastore, 1) := dk_79 (dk_at dksX5_neighbours_5 2 rfl rfl)
theorem dX5_neighbours_122 : decode cX5_neighbours 122 = .ok (.aload_n 0, 1) := dk_42 (dk_at dksX5_neighbours_5 3 rfl rfl)
theorem dX5_neighbours_123 : decode cX5_neighbours 123 = .ok (.getfield 15, 3) := dk_180 0 15 (dk_at dksX5_neighbours_5 4 rfl rfl)
theorem dX5_neighbours_126 : decode cX5_neighbours 126 = .ok (.iload_n 2, 1) := dk_28 (dk_at dksX5_neighbours_5 7 rfl rfl)
theorem dX5_neighbours_127 : decode cX5_neighbours 127 = .ok (.dup2, 1) := dk_92 (dk_at dksX5_neighbours_5 8 rfl rfl)
theorem dX5_neighbours_128 : decode cX5_neighbours 128 = .ok (.iaload, 1) := dk_46 (dk_at dksX5_neighbours_5 9 rfl rfl)
theorem dX5_neighbours_129 : decode cX5_neighbours 129 = .ok (.iconst 1, 1) := dk_4 (dk_at dksX5_neighbours_5 10 rfl rfl)
theorem dX5_neighbours_130 : decode cX5_neighbours 130 = .ok (.iload_n 1, 1) := dk_27 (dk_at dksX5_neighbours_5 11 rfl rfl)
theorem dX5_neighbours_131 : decode cX5_neighbours 131 = .ok (.ishl, 1) := dk_120 (dk_at dksX5_neighbours_5 12 rfl rfl)
theorem dX5_neighbours_132 : decode cX5_neighbours 132 = .ok (.ior, 1) := dk_128 (dk_at dksX5_neighbours_5 13 rfl rfl)
theorem dX5_neighbours_133 : decode cX5_neighbours 133 = .ok (.iastore, 1) := dk_79 (dk_at dksX5_neighbours_5 14 rfl rfl)
theorem dX5_neighbours_134 : decode cX5_neighbours 134 = .ok (.aload_n 0, 1) := dk_42 (dk_at dksX5_neighbours_5 15 rfl rfl)
theorem dX5_neighbours_135 : decode cX5_neighbours 135 = .ok (.dup, 1) := dk_89 (dk_at dksX5_neighbours_5 16 rfl rfl)
theorem dX5_neighbours_136 : decode cX5_neighbours 136 = .ok (.getfield 251, 3) := dk_180 0 251 (dk_at dksX5_neighbours_5 17 rfl rfl)
theorem dX5_neighbours_139 : decode cX5_neighbours 139 = .ok (.iconst 1, 1) := dk_4 (dk_at dksX5_neighbours_5 20 rfl rfl)
theorem dX5_neighbours_140 : decode cX5_neighbours 140 = .ok (.iadd, 1) := dk_96 (dk_at dksX5_neighbours_5 21 rfl rfl)
theorem dX5_neighbours_141 : decode cX5_neighbours 141 = .ok (.putfield 251, 3) := dk_181 0 251 (dk_at dksX5_neighbours_6 0 rfl rfl)
theorem dX5_neighbours_144 : decode cX5_neighbours 144 = .ok (.goto (-140), 3) := dk_167 255 116 (dk_at dksX5_neighbours_6 3 rfl rfl)
theorem dX5_neighbours_147 : decode cX5_neighbours 147 = .ok (.aload_n 0, 1) := dk_42 (dk_at dksX5_neighbours_6 6 rfl rfl)
theorem dX5_neighbours_148 : decode cX5_neighbours 148 = .ok (.getfield 15, 3) := dk_180 0 15 (dk_at dksX5_neighbours_6 7 rfl rfl)
theorem dX5_neighbours_151 : decode cX5_neighbours 151 = .ok (.areturn, 1) := dk_176 (dk_at dksX5_neighbours_6 10 rfl rfl)
theorem q163 : (Jvm.Cond.initialized "GingerRents$Reader") ∈ lw_all := lw_g (lw_at lw_m1 13 rfl) rfl
theorem q326 : (Jvm.Cond.fieldLinkNest "GingerRents$Reader" (137 : Nat) "GingerRents$Borough" "houses" "I" "GingerRents") ∈ lw_tbl := lw_at lw_m1 176 rfl
theorem q406 : (Jvm.Cond.fieldLinkNest "GingerRents$Reader" (29 : Nat) "GingerRents" "tape" "[B" "GingerRents") ∈ lw_tbl := lw_at lw_m2 16 rfl
theorem q407 : (Jvm.Cond.fieldLinkNest "GingerRents$Reader" (26 : Nat) "GingerRents" "taped" "I" "GingerRents") ∈ lw_tbl := lw_at lw_m2 17 rfl
theorem q412 : (Jvm.Cond.fieldLinkNest "GingerRents$Reader" (133 : Nat) "GingerRents" "borough" "LGingerRents$Borough;" "GingerRents") ∈ lw_tbl := lw_at lw_m2 22 rfl
theorem q491 : (Jvm.Cond.instantiable "GingerRents$Reader" (9 : Nat)) ∈ lw_all := lw_g (lw_at lw_m2 101 rfl) rfl
theorem q493 : (Jvm.Cond.instanceMethod ({ cls := "GingerRents$Reader", name := "<init>", desc := "(LGingerRents;I)V" } : Jvm.MethodName)) ∈ lw_all := lw_g (lw_at lw_m2 103 rfl) rfl
theorem q494 : (Jvm.Cond.code ({ cls := "GingerRents$Reader", name := "<init>", desc := "(LGingerRents;I)V" } : Jvm.MethodName) prog_17_method_1_code (3 : Nat) (Option.none : Option Jvm.ClassFile.FieldType)) ∈ lw_all := lw_g (lw_at lw_m2 104 rfl) rfl
theorem q495 : (Jvm.Cond.methodLink "GingerRents$Reader" (9 : Nat) ({ cls := "java/lang/Object", name := "<init>", desc := "()V" } : Jvm.MethodName)) ∈ lw_all := lw_g (lw_at lw_m2 105 rfl) rfl
theorem q496 : (Jvm.Cond.fieldLink "GingerRents$Reader" (19 : Nat) "GingerRents$Reader" "which" "I") ∈ lw_all := lw_g (lw_at lw_m2 106 rfl) rfl
theorem q497 : (Jvm.Cond.fieldLink "GingerRents$Reader" (15 : Nat) "GingerRents$Reader" "nextTo" "[I") ∈ lw_all := lw_g (lw_at lw_m2 107 rfl) rfl
theorem q498 : (Jvm.Cond.fieldLink "GingerRents$Reader" (23 : Nat) "GingerRents$Reader" "at" "I") ∈ lw_all := lw_g (lw_at lw_m2 108 rfl) rfl
theorem q499 : (Jvm.Cond.fieldLink "GingerRents$Reader" (41 : Nat) "GingerRents$Reader" "start" "I") ∈ lw_all := lw_g (lw_at lw_m2 109 rfl) rfl
theorem q500 : (Jvm.Cond.fieldLink "GingerRents$Reader" (120 : Nat) "GingerRents$Reader" "token" "I") ∈ lw_all := lw_g (lw_at lw_m2 110 rfl) rfl
theorem q501 : (Jvm.Cond.fieldLink "GingerRents$Reader" (128 : Nat) "GingerRents$Reader" "value" "I") ∈ lw_all := lw_g (lw_at lw_m2 111 rfl) rfl
theorem q502 : (Jvm.Cond.fieldLink "GingerRents$Reader" (160 : Nat) "GingerRents$Reader" "open" "I") ∈ lw_all := lw_g (lw_at lw_m2 112 rfl) rfl
theorem q504 : (Jvm.Cond.fieldLink "GingerRents$Reader" (251 : Nat) "GingerRents$Reader" "told" "I") ∈ lw_all := lw_g (lw_at lw_m2 114 rfl) rfl
theorem q505 : (Jvm.Cond.fieldLink "GingerRents$Reader" (3 : Nat) "GingerRents$Reader" "this$0" "LGingerRents;") ∈ lw_all := lw_g (lw_at lw_m2 115 rfl) rfl
theorem q506 : (Jvm.Cond.laysFinal "GingerRents$Reader" "GingerRents$Reader" "which" "I") ∈ lw_all := lw_g (lw_at lw_m2 116 rfl) rfl
theorem q507 : (Jvm.Cond.soleField "GingerRents$Reader" "which") ∈ lw_all := lw_g (lw_at lw_m2 117 rfl) rfl
theorem q508 : (Jvm.Cond.laysFinal "GingerRents$Reader" "GingerRents$Reader" "nextTo" "[I") ∈ lw_all := lw_g (lw_at lw_m2 118 rfl) rfl
theorem q509 : (Jvm.Cond.soleField "GingerRents$Reader" "nextTo") ∈ lw_all := lw_g (lw_at lw_m2 119 rfl) rfl
theorem q510 : (Jvm.Cond.lays "GingerRents$Reader" "GingerRents$Reader" "at" "I") ∈ lw_all := lw_g (lw_at lw_m2 120 rfl) rfl
theorem q511 : (Jvm.Cond.soleField "GingerRents$Reader" "at") ∈ lw_all := lw_g (lw_at lw_m2 121 rfl) rfl
theorem q512 : (Jvm.Cond.lays "GingerRents$Reader" "GingerRents$Reader" "start" "I") ∈ lw_all := lw_g (lw_at lw_m2 122 rfl) rfl
theorem q513 : (Jvm.Cond.soleField "GingerRents$Reader" "start") ∈ lw_all := lw_g (lw_at lw_m2 123 rfl) rfl
theorem q514 : (Jvm.Cond.lays "GingerRents$Reader" "GingerRents$Reader" "token" "I") ∈ lw_all := lw_g (lw_at lw_m2 124 rfl) rfl
theorem q515 : (Jvm.Cond.soleField "GingerRents$Reader" "token") ∈ lw_all := lw_g (lw_at lw_m2 125 rfl) rfl
theorem q516 : (Jvm.Cond.lays "GingerRents$Reader" "GingerRents$Reader" "value" "I") ∈ lw_all := lw_g (lw_at lw_m2 126 rfl) rfl
theorem q517 : (Jvm.Cond.soleField "GingerRents$Reader" "value") ∈ lw_all := lw_g (lw_at lw_m2 127 rfl) rfl
theorem q518 : (Jvm.Cond.lays "GingerRents$Reader" "GingerRents$Reader" "open" "I") ∈ lw_all := lw_g (lw_at lw_m2 128 rfl) rfl
theorem q519 : (Jvm.Cond.soleField "GingerRents$Reader" "open") ∈ lw_all := lw_g (lw_at lw_m2 129 rfl) rfl
theorem q520 : (Jvm.Cond.lays "GingerRents$Reader" "GingerRents$Reader" "told" "I") ∈ lw_all := lw_g (lw_at lw_m2 130 rfl) rfl
theorem q521 : (Jvm.Cond.soleField "GingerRents$Reader" "told") ∈ lw_all := lw_g (lw_at lw_m2 131 rfl) rfl
theorem q522 : (Jvm.Cond.laysFinal "GingerRents$Reader" "GingerRents$Reader" "this$0" "LGingerRents;") ∈ lw_all := lw_g (lw_at lw_m2 132 rfl) rfl
theorem q523 : (Jvm.Cond.soleField "GingerRents$Reader" "this$0") ∈ lw_all := lw_g (lw_at lw_m2 133 rfl) rfl
theorem q524 : (Jvm.Cond.superclass "GingerRents$Reader" "java/lang/Object") ∈ lw_all := lw_g (lw_at lw_m2 134 rfl) rfl
theorem q526 : (Jvm.Cond.instanceMethod ({ cls := "GingerRents$Reader", name := "law", desc := "()Ljava/util/ArrayList;" } : Jvm.MethodName)) ∈ lw_all := lw_g (lw_at lw_m2 136 rfl) rfl
theorem q527 : (Jvm.Cond.selects "GingerRents$Reader" ({ cls := "GingerRents$Reader", name := "law", desc := "()Ljava/util/ArrayList;" } : Jvm.MethodName) ({ cls := "GingerRents$Reader", name := "law", desc := "()Ljava/util/ArrayList;" } : Jvm.MethodName)) ∈ lw_all := lw_g (lw_at lw_m2 137 rfl) rfl
theorem q528 : (Jvm.Cond.code ({ cls := "GingerRents$Reader", name := "law", desc := "()Ljava/util/ArrayList;" } : Jvm.MethodName) prog_17_method_22_code (5 : Nat) (Option.some (Jvm.ClassFile.FieldType.object "java/util/ArrayList"))) ∈ lw_all := lw_g (lw_at lw_m2 138 rfl) rfl
theorem q529 : (Jvm.Cond.classLink "GingerRents$Reader" (205 : Nat) "java/util/ArrayList") ∈ lw_all := lw_g (lw_at lw_m2 139 rfl) rfl
theorem q530 : (Jvm.Cond.methodLink "GingerRents$Reader" (207 : Nat) ({ cls := "java/util/ArrayList", name := "<init>", desc := "()V" } : Jvm.MethodName)) ∈ lw_all := lw_g (lw_at lw_m2 140 rfl) rfl
theorem q531 : (Jvm.Cond.methodLink "GingerRents$Reader" (131 : Nat) ({ cls := "GingerRents$Reader", name := "next", desc := "()V" } : Jvm.MethodName)) ∈ lw_all := lw_g (lw_at lw_m2 141 rfl) rfl
theorem q532 : (Jvm.Cond.privateMethod ({ cls := "GingerRents$Reader", name := "next", desc := "()V" } : Jvm.MethodName)) ∈ lw_tbl := lw_at lw_m2 142 rfl
theorem q533 : (Jvm.Cond.instanceMethod ({ cls := "GingerRents$Reader", name := "next", desc := "()V" } : Jvm.MethodName)) ∈ lw_all := lw_g (lw_at lw_m2 143 rfl) rfl
theorem q534 : (Jvm.Cond.code ({ cls := "GingerRents$Reader", name := "next", desc := "()V" } : Jvm.MethodName) prog_17_method_13_code (1 : Nat) (Option.none : Option Jvm.ClassFile.FieldType)) ∈ lw_all := lw_g (lw_at lw_m2 144 rfl) rfl
theorem q535 : (Jvm.Cond.methodLink "GingerRents$Reader" (33 : Nat) ({ cls := "GingerRents$Reader", name := "see", desc := "()I" } : Jvm.MethodName)) ∈ lw_all := lw_g (lw_at lw_m2 145 rfl) rfl
theorem q536 : (Jvm.Cond.privateMethod ({ cls := "GingerRents$Reader", name := "see", desc := "()I" } : Jvm.MethodName)) ∈ lw_tbl := lw_at lw_m2 146 rfl
theorem q537 : (Jvm.Cond.instanceMethod ({ cls := "GingerRents$Reader", name := "see", desc := "()I" } : Jvm.MethodName)) ∈ lw_all := lw_g (lw_at lw_m2 147 rfl) rfl
theorem q538 : (Jvm.Cond.code ({ cls := "GingerRents$Reader", name := "see", desc := "()I" } : Jvm.MethodName) prog_17_method_2_code (1 : Nat) (Option.some Jvm.ClassFile.FieldType.int)) ∈ lw_all := lw_g (lw_at lw_m2 148 rfl) rfl
theorem q539 : (Jvm.Cond.methodLink "GingerRents$Reader" (146 : Nat) ({ cls := "GingerRents$Reader", name := "isLetter", desc := "()Z" } : Jvm.MethodName)) ∈ lw_all := lw_g (lw_at lw_m2 149 rfl) rfl
theorem q540 : (Jvm.Cond.privateMethod ({ cls := "GingerRents$Reader", name := "isLetter", desc := "()Z" } : Jvm.MethodName)) ∈ lw_tbl := lw_at lw_m2 150 rfl
theorem q541 : (Jvm.Cond.instanceMethod ({ cls := "GingerRents$Reader", name := "isLetter", desc := "()Z" } : Jvm.MethodName)) ∈ lw_all := lw_g (lw_at lw_m2 151 rfl) rfl
theorem q542 : (Jvm.Cond.code ({ cls := "GingerRents$Reader", name := "isLetter", desc := "()Z" } : Jvm.MethodName) prog_17_method_3_code (1 : Nat) (Option.some Jvm.ClassFile.FieldType.boolean)) ∈ lw_all := lw_g (lw_at lw_m2 152 rfl) rfl
theorem q543 : (Jvm.Cond.methodLinkNest "GingerRents$Reader" (37 : Nat) ({ cls := "GingerRents", name := "isIn", desc := "(III)Z" } : Jvm.MethodName) "GingerRents") ∈ lw_tbl := lw_at lw_m2 153 rfl
theorem q544 : (Jvm.Cond.methodLink "GingerRents$Reader" (150 : Nat) ({ cls := "GingerRents$Reader", name := "keyword", desc := "()I" } : Jvm.MethodName)) ∈ lw_all := lw_g (lw_at lw_m2 154 rfl) rfl
theorem q545 : (Jvm.Cond.privateMethod ({ cls := "GingerRents$Reader", name := "keyword", desc := "()I" } : Jvm.MethodName)) ∈ lw_tbl := lw_at lw_m2 155 rfl
theorem q546 : (Jvm.Cond.instanceMethod ({ cls := "GingerRents$Reader", name := "keyword", desc := "()I" } : Jvm.MethodName)) ∈ lw_all := lw_g (lw_at lw_m2 156 rfl) rfl
theorem q547 : (Jvm.Cond.code ({ cls := "GingerRents$Reader", name := "keyword", desc := "()I" } : Jvm.MethodName) prog_17_method_9_code (1 : Nat) (Option.some Jvm.ClassFile.FieldType.int)) ∈ lw_all := lw_g (lw_at lw_m2 157 rfl) rfl
theorem q548 : (Jvm.Cond.methodLink "GingerRents$Reader" (108 : Nat) ({ cls := "GingerRents$Reader", name := "lawWord", desc := "()I" } : Jvm.MethodName)) ∈ lw_all := lw_g (lw_at lw_m2 158 rfl) rfl
theorem q549 : (Jvm.Cond.privateMethod ({ cls := "GingerRents$Reader", name := "lawWord", desc := "()I" } : Jvm.MethodName)) ∈ lw_tbl := lw_at lw_m2 159 rfl
theorem q550 : (Jvm.Cond.instanceMethod ({ cls := "GingerRents$Reader", name := "lawWord", desc := "()I" } : Jvm.MethodName)) ∈ lw_all := lw_g (lw_at lw_m2 160 rfl) rfl
theorem q551 : (Jvm.Cond.code ({ cls := "GingerRents$Reader", name := "lawWord", desc := "()I" } : Jvm.MethodName) prog_17_method_7_code (1 : Nat) (Option.some Jvm.ClassFile.FieldType.int)) ∈ lw_all := lw_g (lw_at lw_m2 161 rfl) rfl
theorem q552 : (Jvm.Cond.stringRef "GingerRents$Reader" (81 : Nat) "when") ∈ lw_tbl := lw_at lw_m2 162 rfl
theorem q553 : (Jvm.Cond.methodLink "GingerRents$Reader" (55 : Nat) ({ cls := "GingerRents$Reader", name := "is", desc := "(Ljava/lang/String;)Z" } : Jvm.MethodName)) ∈ lw_all := lw_g (lw_at lw_m2 163 rfl) rfl
theorem q554 : (Jvm.Cond.privateMethod ({ cls := "GingerRents$Reader", name := "is", desc := "(Ljava/lang/String;)Z" } : Jvm.MethodName)) ∈ lw_tbl := lw_at lw_m2 164 rfl
theorem q555 : (Jvm.Cond.instanceMethod ({ cls := "GingerRents$Reader", name := "is", desc := "(Ljava/lang/String;)Z" } : Jvm.MethodName)) ∈ lw_all := lw_g (lw_at lw_m2 165 rfl) rfl
theorem q556 : (Jvm.Cond.code ({ cls := "GingerRents$Reader", name := "is", desc := "(Ljava/lang/String;)Z" } : Jvm.MethodName) prog_17_method_5_code (4 : Nat) (Option.some Jvm.ClassFile.FieldType.boolean)) ∈ lw_all := lw_g (lw_at lw_m2 166 rfl) rfl
theorem q557 : (Jvm.Cond.methodLink "GingerRents$Reader" (44 : Nat) ({ cls := "java/lang/String", name := "length", desc := "()I" } : Jvm.MethodName)) ∈ lw_all := lw_g (lw_at lw_m2 167 rfl) rfl
theorem q567 : (Jvm.Cond.methodLink "GingerRents$Reader" (49 : Nat) ({ cls := "java/lang/String", name := "charAt", desc := "(I)C" } : Jvm.MethodName)) ∈ lw_all := lw_g (lw_at lw_m2 177 rfl) rfl
theorem q605 : (Jvm.Cond.stringRef "GingerRents$Reader" (83 : Nat) "or") ∈ lw_tbl := lw_at lw_m2 215 rfl
theorem q606 : (Jvm.Cond.stringRef "GingerRents$Reader" (85 : Nat) "and") ∈ lw_tbl := lw_at lw_m2 216 rfl
theorem q607 : (Jvm.Cond.stringRef "GingerRents$Reader" (87 : Nat) "not") ∈ lw_tbl := lw_at lw_m2 217 rfl
theorem q608 : (Jvm.Cond.stringRef "GingerRents$Reader" (89 : Nat) "rent") ∈ lw_tbl := lw_at lw_m2 218 rfl
theorem q609 : (Jvm.Cond.stringRef "GingerRents$Reader" (91 : Nat) "gnaws") ∈ lw_tbl := lw_at lw_m2 219 rfl
theorem q610 : (Jvm.Cond.stringRef "GingerRents$Reader" (93 : Nat) "melts") ∈ lw_tbl := lw_at lw_m2 220 rfl
theorem q611 : (Jvm.Cond.methodLink "GingerRents$Reader" (95 : Nat) ({ cls := "GingerRents$Reader", name := "asked", desc := "()I" } : Jvm.MethodName)) ∈ lw_all := lw_g (lw_at lw_m2 221 rfl) rfl
theorem q612 : (Jvm.Cond.privateMethod ({ cls := "GingerRents$Reader", name := "asked", desc := "()I" } : Jvm.MethodName)) ∈ lw_tbl := lw_at lw_m2 222 rfl
theorem q613 : (Jvm.Cond.instanceMethod ({ cls := "GingerRents$Reader", name := "asked", desc := "()I" } : Jvm.MethodName)) ∈ lw_all := lw_g (lw_at lw_m2 223 rfl) rfl
theorem q614 : (Jvm.Cond.code ({ cls := "GingerRents$Reader", name := "asked", desc := "()I" } : Jvm.MethodName) prog_17_method_6_code (1 : Nat) (Option.some Jvm.ClassFile.FieldType.int)) ∈ lw_all := lw_g (lw_at lw_m2 224 rfl) rfl
theorem q615 : (Jvm.Cond.stringRef "GingerRents$Reader" (53 : Nat) "wall") ∈ lw_tbl := lw_at lw_m2 225 rfl
theorem q616 : (Jvm.Cond.stringRef "GingerRents$Reader" (59 : Nat) "sum") ∈ lw_tbl := lw_at lw_m2 226 rfl
theorem q617 : (Jvm.Cond.stringRef "GingerRents$Reader" (61 : Nat) "almonds") ∈ lw_tbl := lw_at lw_m2 227 rfl
theorem q618 : (Jvm.Cond.stringRef "GingerRents$Reader" (63 : Nat) "teeth") ∈ lw_tbl := lw_at lw_m2 228 rfl
theorem q619 : (Jvm.Cond.stringRef "GingerRents$Reader" (65 : Nat) "hard") ∈ lw_tbl := lw_at lw_m2 229 rfl
theorem q620 : (Jvm.Cond.stringRef "GingerRents$Reader" (67 : Nat) "icing") ∈ lw_tbl := lw_at lw_m2 230 rfl
theorem q621 : (Jvm.Cond.stringRef "GingerRents$Reader" (69 : Nat) "lodgers") ∈ lw_tbl := lw_at lw_m2 231 rfl
theorem q622 : (Jvm.Cond.stringRef "GingerRents$Reader" (71 : Nat) "door") ∈ lw_tbl := lw_at lw_m2 232 rfl
theorem q623 : (Jvm.Cond.stringRef "GingerRents$Reader" (73 : Nat) "age") ∈ lw_tbl := lw_at lw_m2 233 rfl
theorem q624 : (Jvm.Cond.stringRef "GingerRents$Reader" (75 : Nat) "rain") ∈ lw_tbl := lw_at lw_m2 234 rfl
theorem q625 : (Jvm.Cond.stringRef "GingerRents$Reader" (77 : Nat) "frost") ∈ lw_tbl := lw_at lw_m2 235 rfl
theorem q626 : (Jvm.Cond.stringRef "GingerRents$Reader" (79 : Nat) "quarter") ∈ lw_tbl := lw_at lw_m2 236 rfl
theorem q627 : (Jvm.Cond.stringRef "GingerRents$Reader" (98 : Nat) "in") ∈ lw_tbl := lw_at lw_m2 237 rfl
theorem q628 : (Jvm.Cond.stringRef "GingerRents$Reader" (111 : Nat) "thaw") ∈ lw_tbl := lw_at lw_m2 238 rfl
theorem q629 : (Jvm.Cond.methodLink "GingerRents$Reader" (113 : Nat) ({ cls := "GingerRents$Reader", name := "officeWord", desc := "()I" } : Jvm.MethodName)) ∈ lw_all := lw_g (lw_at lw_m2 239 rfl) rfl
theorem q630 : (Jvm.Cond.privateMethod ({ cls := "GingerRents$Reader", name := "officeWord", desc := "()I" } : Jvm.MethodName)) ∈ lw_tbl := lw_at lw_m3 0 rfl
theorem q631 : (Jvm.Cond.instanceMethod ({ cls := "GingerRents$Reader", name := "officeWord", desc := "()I" } : Jvm.MethodName)) ∈ lw_all := lw_g (lw_at lw_m3 1 rfl) rfl
theorem q632 : (Jvm.Cond.code ({ cls := "GingerRents$Reader", name := "officeWord", desc := "()I" } : Jvm.MethodName) prog_17_method_8_code (1 : Nat) (Option.some Jvm.ClassFile.FieldType.int)) ∈ lw_all := lw_g (lw_at lw_m3 2 rfl) rfl
theorem q633 : (Jvm.Cond.stringRef "GingerRents$Reader" (100 : Nat) "ice") ∈ lw_tbl := lw_at lw_m3 3 rfl
theorem q634 : (Jvm.Cond.stringRef "GingerRents$Reader" (102 : Nat) "bake") ∈ lw_tbl := lw_at lw_m3 4 rfl
theorem q635 : (Jvm.Cond.stringRef "GingerRents$Reader" (104 : Nat) "wed") ∈ lw_tbl := lw_at lw_m3 5 rfl
theorem q636 : (Jvm.Cond.stringRef "GingerRents$Reader" (106 : Nat) "raze") ∈ lw_tbl := lw_at lw_m3 6 rfl
theorem q637 : (Jvm.Cond.stringRef "GingerRents$Reader" (116 : Nat) "house") ∈ lw_tbl := lw_at lw_m3 7 rfl
theorem q638 : (Jvm.Cond.stringRef "GingerRents$Reader" (118 : Nat) "next") ∈ lw_tbl := lw_at lw_m3 8 rfl
theorem q639 : (Jvm.Cond.methodLink "GingerRents$Reader" (153 : Nat) ({ cls := "GingerRents$Reader", name := "isDigit", desc := "()Z" } : Jvm.MethodName)) ∈ lw_all := lw_g (lw_at lw_m3 9 rfl) rfl
theorem q640 : (Jvm.Cond.privateMethod ({ cls := "GingerRents$Reader", name := "isDigit", desc := "()Z" } : Jvm.MethodName)) ∈ lw_tbl := lw_at lw_m3 10 rfl
theorem q641 : (Jvm.Cond.instanceMethod ({ cls := "GingerRents$Reader", name := "isDigit", desc := "()Z" } : Jvm.MethodName)) ∈ lw_all := lw_g (lw_at lw_m3 11 rfl) rfl
theorem q642 : (Jvm.Cond.code ({ cls := "GingerRents$Reader", name := "isDigit", desc := "()Z" } : Jvm.MethodName) prog_17_method_4_code (1 : Nat) (Option.some Jvm.ClassFile.FieldType.boolean)) ∈ lw_all := lw_g (lw_at lw_m3 12 rfl) rfl
theorem q643 : (Jvm.Cond.methodLink "GingerRents$Reader" (156 : Nat) ({ cls := "GingerRents$Reader", name := "isMark", desc := "(I)Z" } : Jvm.MethodName)) ∈ lw_all := lw_g (lw_at lw_m3 13 rfl) rfl
theorem q644 : (Jvm.Cond.privateMethod ({ cls := "GingerRents$Reader", name := "isMark", desc := "(I)Z" } : Jvm.MethodName)) ∈ lw_tbl := lw_at lw_m3 14 rfl
theorem q645 : (Jvm.Cond.instanceMethod ({ cls := "GingerRents$Reader", name := "isMark", desc := "(I)Z" } : Jvm.MethodName)) ∈ lw_all := lw_g (lw_at lw_m3 15 rfl) rfl
theorem q646 : (Jvm.Cond.code ({ cls := "GingerRents$Reader", name := "isMark", desc := "(I)Z" } : Jvm.MethodName) prog_17_method_12_code (2 : Nat) (Option.some Jvm.ClassFile.FieldType.boolean)) ∈ lw_all := lw_g (lw_at lw_m3 16 rfl) rfl
theorem q647 : (Jvm.Cond.classLink "GingerRents$Reader" (123 : Nat) "GingerRents$Fault") ∈ lw_all := lw_g (lw_at lw_m3 17 rfl) rfl
theorem q684 : (Jvm.Cond.methodLink "GingerRents$Reader" (125 : Nat) ({ cls := "GingerRents$Fault", name := "<init>", desc := "(II)V" } : Jvm.MethodName)) ∈ lw_all := lw_g (lw_at lw_m3 54 rfl) rfl
theorem q711 : (Jvm.Cond.methodLink "GingerRents$Reader" (208 : Nat) ({ cls := "java/util/ArrayList", name := "size", desc := "()I" } : Jvm.MethodName)) ∈ lw_all := lw_g (lw_at lw_m3 81 rfl) rfl
theorem q715 : (Jvm.Cond.methodLink "GingerRents$Reader" (203 : Nat) ({ cls := "GingerRents$Reader", name := "sum", desc := "()LGingerRents$Term;" } : Jvm.MethodName)) ∈ lw_all := lw_g (lw_at lw_m3 85 rfl) rfl
theorem q716 : (Jvm.Cond.privateMethod ({ cls := "GingerRents$Reader", name := "sum", desc := "()LGingerRents$Term;" } : Jvm.MethodName)) ∈ lw_tbl := lw_at lw_m3 86 rfl
theorem q717 : (Jvm.Cond.instanceMethod ({ cls := "GingerRents$Reader", name := "sum", desc := "()LGingerRents$Term;" } : Jvm.MethodName)) ∈ lw_all := lw_g (lw_at lw_m3 87 rfl) rfl
theorem q718 : (Jvm.Cond.code ({ cls := "GingerRents$Reader", name := "sum", desc := "()LGingerRents$Term;" } : Jvm.MethodName) prog_17_method_16_code (3 : Nat) (Option.some (Jvm.ClassFile.FieldType.object "GingerRents$Term"))) ∈ lw_all := lw_g (lw_at lw_m3 88 rfl) rfl
theorem q719 : (Jvm.Cond.methodLink "GingerRents$Reader" (163 : Nat) ({ cls := "GingerRents$Reader", name := "product", desc := "()LGingerRents$Term;" } : Jvm.MethodName)) ∈ lw_all := lw_g (lw_at lw_m3 89 rfl) rfl
theorem q720 : (Jvm.Cond.privateMethod ({ cls := "GingerRents$Reader", name := "product", desc := "()LGingerRents$Term;" } : Jvm.MethodName)) ∈ lw_tbl := lw_at lw_m3 90 rfl
theorem q721 : (Jvm.Cond.instanceMethod ({ cls := "GingerRents$Reader", name := "product", desc := "()LGingerRents$Term;" } : Jvm.MethodName)) ∈ lw_all := lw_g (lw_at lw_m3 91 rfl) rfl
theorem q722 : (Jvm.Cond.code ({ cls := "GingerRents$Reader", name := "product", desc := "()LGingerRents$Term;" } : Jvm.MethodName) prog_17_method_17_code (3 : Nat) (Option.some (Jvm.ClassFile.FieldType.object "GingerRents$Term"))) ∈ lw_all := lw_g (lw_at lw_m3 92 rfl) rfl
theorem q723 : (Jvm.Cond.methodLink "GingerRents$Reader" (172 : Nat) ({ cls := "GingerRents$Reader", name := "unit", desc := "()LGingerRents$Term;" } : Jvm.MethodName)) ∈ lw_all := lw_g (lw_at lw_m3 93 rfl) rfl
theorem q724 : (Jvm.Cond.privateMethod ({ cls := "GingerRents$Reader", name := "unit", desc := "()LGingerRents$Term;" } : Jvm.MethodName)) ∈ lw_tbl := lw_at lw_m3 94 rfl
theorem q725 : (Jvm.Cond.instanceMethod ({ cls := "GingerRents$Reader", name := "unit", desc := "()LGingerRents$Term;" } : Jvm.MethodName)) ∈ lw_all := lw_g (lw_at lw_m3 95 rfl) rfl
theorem q726 : (Jvm.Cond.code ({ cls := "GingerRents$Reader", name := "unit", desc := "()LGingerRents$Term;" } : Jvm.MethodName) prog_17_method_18_code (2 : Nat) (Option.some (Jvm.ClassFile.FieldType.object "GingerRents$Term"))) ∈ lw_all := lw_g (lw_at lw_m3 96 rfl) rfl
theorem q727 : (Jvm.Cond.classLink "GingerRents$Reader" (175 : Nat) "GingerRents$Fixed") ∈ lw_all := lw_g (lw_at lw_m3 97 rfl) rfl
theorem q729 : (Jvm.Cond.methodLink "GingerRents$Reader" (142 : Nat) ({ cls := "GingerRents$Reader", name := "number", desc := "(II)I" } : Jvm.MethodName)) ∈ lw_all := lw_g (lw_at lw_m3 99 rfl) rfl
theorem q730 : (Jvm.Cond.privateMethod ({ cls := "GingerRents$Reader", name := "number", desc := "(II)I" } : Jvm.MethodName)) ∈ lw_tbl := lw_at lw_m3 100 rfl
theorem q731 : (Jvm.Cond.instanceMethod ({ cls := "GingerRents$Reader", name := "number", desc := "(II)I" } : Jvm.MethodName)) ∈ lw_all := lw_g (lw_at lw_m3 101 rfl) rfl
theorem q732 : (Jvm.Cond.code ({ cls := "GingerRents$Reader", name := "number", desc := "(II)I" } : Jvm.MethodName) prog_17_method_10_code (4 : Nat) (Option.some Jvm.ClassFile.FieldType.int)) ∈ lw_all := lw_g (lw_at lw_m3 102 rfl) rfl
theorem q733 : (Jvm.Cond.methodLink "GingerRents$Reader" (177 : Nat) ({ cls := "GingerRents$Fixed", name := "<init>", desc := "(I)V" } : Jvm.MethodName)) ∈ lw_all := lw_g (lw_at lw_m3 103 rfl) rfl
theorem q744 : (Jvm.Cond.classLink "GingerRents$Reader" (180 : Nat) "GingerRents$Known") ∈ lw_all := lw_g (lw_at lw_m3 114 rfl) rfl
theorem q746 : (Jvm.Cond.methodLink "GingerRents$Reader" (182 : Nat) ({ cls := "GingerRents$Known", name := "<init>", desc := "(I)V" } : Jvm.MethodName)) ∈ lw_all := lw_g (lw_at lw_m3 116 rfl) rfl
theorem q754 : (Jvm.Cond.classLink "GingerRents$Reader" (167 : Nat) "GingerRents$Joined") ∈ lw_all := lw_g (lw_at lw_m3 124 rfl) rfl
theorem q756 : (Jvm.Cond.methodLink "GingerRents$Reader" (169 : Nat) ({ cls := "GingerRents$Joined", name := "<init>", desc := "(LGingerRents$Term;ILGingerRents$Term;)V" } : Jvm.MethodName)) ∈ lw_all := lw_g (lw_at lw_m3 126 rfl) rfl
theorem q770 : (Jvm.Cond.methodLink "GingerRents$Reader" (197 : Nat) ({ cls := "GingerRents$Reader", name := "any", desc := "()LGingerRents$Term;" } : Jvm.MethodName)) ∈ lw_all := lw_g (lw_at lw_m3 140 rfl) rfl
theorem q771 : (Jvm.Cond.privateMethod ({ cls := "GingerRents$Reader", name := "any", desc := "()LGingerRents$Term;" } : Jvm.MethodName)) ∈ lw_tbl := lw_at lw_m3 141 rfl
theorem q772 : (Jvm.Cond.instanceMethod ({ cls := "GingerRents$Reader", name := "any", desc := "()LGingerRents$Term;" } : Jvm.MethodName)) ∈ lw_all := lw_g (lw_at lw_m3 142 rfl) rfl
theorem q773 : (Jvm.Cond.code ({ cls := "GingerRents$Reader", name := "any", desc := "()LGingerRents$Term;" } : Jvm.MethodName) prog_17_method_19_code (2 : Nat) (Option.some (Jvm.ClassFile.FieldType.object "GingerRents$Term"))) ∈ lw_all := lw_g (lw_at lw_m3 143 rfl) rfl
theorem q774 : (Jvm.Cond.methodLink "GingerRents$Reader" (183 : Nat) ({ cls := "GingerRents$Reader", name := "all", desc := "()LGingerRents$Term;" } : Jvm.MethodName)) ∈ lw_all := lw_g (lw_at lw_m3 144 rfl) rfl
theorem q775 : (Jvm.Cond.privateMethod ({ cls := "GingerRents$Reader", name := "all", desc := "()LGingerRents$Term;" } : Jvm.MethodName)) ∈ lw_tbl := lw_at lw_m3 145 rfl
theorem q776 : (Jvm.Cond.instanceMethod ({ cls := "GingerRents$Reader", name := "all", desc := "()LGingerRents$Term;" } : Jvm.MethodName)) ∈ lw_all := lw_g (lw_at lw_m3 146 rfl) rfl
theorem q777 : (Jvm.Cond.code ({ cls := "GingerRents$Reader", name := "all", desc := "()LGingerRents$Term;" } : Jvm.MethodName) prog_17_method_20_code (2 : Nat) (Option.some (Jvm.ClassFile.FieldType.object "GingerRents$Term"))) ∈ lw_all := lw_g (lw_at lw_m3 147 rfl) rfl
theorem q778 : (Jvm.Cond.methodLink "GingerRents$Reader" (186 : Nat) ({ cls := "GingerRents$Reader", name := "one", desc := "()LGingerRents$Term;" } : Jvm.MethodName)) ∈ lw_all := lw_g (lw_at lw_m3 148 rfl) rfl
theorem q779 : (Jvm.Cond.privateMethod ({ cls := "GingerRents$Reader", name := "one", desc := "()LGingerRents$Term;" } : Jvm.MethodName)) ∈ lw_tbl := lw_at lw_m3 149 rfl
theorem q780 : (Jvm.Cond.instanceMethod ({ cls := "GingerRents$Reader", name := "one", desc := "()LGingerRents$Term;" } : Jvm.MethodName)) ∈ lw_all := lw_g (lw_at lw_m3 150 rfl) rfl
theorem q781 : (Jvm.Cond.code ({ cls := "GingerRents$Reader", name := "one", desc := "()LGingerRents$Term;" } : Jvm.MethodName) prog_17_method_21_code (3 : Nat) (Option.some (Jvm.ClassFile.FieldType.object "GingerRents$Term"))) ∈ lw_all := lw_g (lw_at lw_m3 151 rfl) rfl
theorem q782 : (Jvm.Cond.methodLink "GingerRents$Reader" (189 : Nat) ({ cls := "GingerRents$Reader", name := "opens", desc := "()V" } : Jvm.MethodName)) ∈ lw_all := lw_g (lw_at lw_m3 152 rfl) rfl
theorem q783 : (Jvm.Cond.privateMethod ({ cls := "GingerRents$Reader", name := "opens", desc := "()V" } : Jvm.MethodName)) ∈ lw_tbl := lw_at lw_m3 153 rfl
theorem q784 : (Jvm.Cond.instanceMethod ({ cls := "GingerRents$Reader", name := "opens", desc := "()V" } : Jvm.MethodName)) ∈ lw_all := lw_g (lw_at lw_m3 154 rfl) rfl
theorem q785 : (Jvm.Cond.code ({ cls := "GingerRents$Reader", name := "opens", desc := "()V" } : Jvm.MethodName) prog_17_method_15_code (1 : Nat) (Option.none : Option Jvm.ClassFile.FieldType)) ∈ lw_all := lw_g (lw_at lw_m3 155 rfl) rfl
theorem q786 : (Jvm.Cond.classLink "GingerRents$Reader" (192 : Nat) "GingerRents$Not") ∈ lw_all := lw_g (lw_at lw_m3 156 rfl) rfl
theorem q788 : (Jvm.Cond.methodLink "GingerRents$Reader" (194 : Nat) ({ cls := "GingerRents$Not", name := "<init>", desc := "(LGingerRents$Term;)V" } : Jvm.MethodName)) ∈ lw_all := lw_g (lw_at lw_m3 158 rfl) rfl
theorem q796 : (Jvm.Cond.methodLink "GingerRents$Reader" (200 : Nat) ({ cls := "GingerRents$Reader", name := "must", desc := "(I)V" } : Jvm.MethodName)) ∈ lw_all := lw_g (lw_at lw_m3 166 rfl) rfl
theorem q797 : (Jvm.Cond.privateMethod ({ cls := "GingerRents$Reader", name := "must", desc := "(I)V" } : Jvm.MethodName)) ∈ lw_tbl := lw_at lw_m3 167 rfl
theorem q798 : (Jvm.Cond.instanceMethod ({ cls := "GingerRents$Reader", name := "must", desc := "(I)V" } : Jvm.MethodName)) ∈ lw_all := lw_g (lw_at lw_m3 168 rfl) rfl
theorem q799 : (Jvm.Cond.code ({ cls := "GingerRents$Reader", name := "must", desc := "(I)V" } : Jvm.MethodName) prog_17_method_14_code (2 : Nat) (Option.none : Option Jvm.ClassFile.FieldType)) ∈ lw_all := lw_g (lw_at lw_m3 169 rfl) rfl
theorem q800 : (Jvm.Cond.classLink "GingerRents$Reader" (211 : Nat) "GingerRents$Line") ∈ lw_all := lw_g (lw_at lw_m3 170 rfl) rfl
theorem q802 : (Jvm.Cond.methodLink "GingerRents$Reader" (213 : Nat) ({ cls := "GingerRents$Line", name := "<init>", desc := "(ILGingerRents$Term;LGingerRents$Term;)V" } : Jvm.MethodName)) ∈ lw_all := lw_g (lw_at lw_m3 172 rfl) rfl
theorem q819 : (Jvm.Cond.methodLink "GingerRents$Reader" (216 : Nat) ({ cls := "java/util/ArrayList", name := "add", desc := "(Ljava/lang/Object;)Z" } : Jvm.MethodName)) ∈ lw_all := lw_g (lw_at lw_m3 189 rfl) rfl
theorem q865 : (Jvm.Cond.selects "GingerRents$Reader" ({ cls := "java/lang/Object", name := "getClass", desc := "()Ljava/lang/Class;" } : Jvm.MethodName) ({ cls := "java/lang/Object", name := "getClass", desc := "()Ljava/lang/Class;" } : Jvm.MethodName)) ∈ lw_all := lw_g (lw_at lw_m3 235 rfl) rfl
theorem q887 : (Jvm.Cond.instanceMethod ({ cls := "GingerRents$Reader", name := "entries", desc := "()Ljava/util/ArrayList;" } : Jvm.MethodName)) ∈ lw_all := lw_g (lw_at lw_m4 17 rfl) rfl
theorem q888 : (Jvm.Cond.selects "GingerRents$Reader" ({ cls := "GingerRents$Reader", name := "entries", desc := "()Ljava/util/ArrayList;" } : Jvm.MethodName) ({ cls := "GingerRents$Reader", name := "entries", desc := "()Ljava/util/ArrayList;" } : Jvm.MethodName)) ∈ lw_all := lw_g (lw_at lw_m4 18 rfl) rfl
theorem q889 : (Jvm.Cond.code ({ cls := "GingerRents$Reader", name := "entries", desc := "()Ljava/util/ArrayList;" } : Jvm.MethodName) prog_17_method_25_code (3 : Nat) (Option.some (Jvm.ClassFile.FieldType.object "java/util/ArrayList"))) ∈ lw_all := lw_g (lw_at lw_m4 19 rfl) rfl
theorem q890 : (Jvm.Cond.methodLink "GingerRents$Reader" (244 : Nat) ({ cls := "GingerRents$Reader", name := "weather", desc := "(I)LGingerRents$Entry;" } : Jvm.MethodName)) ∈ lw_all := lw_g (lw_at lw_m4 20 rfl) rfl
theorem q891 : (Jvm.Cond.privateMethod ({ cls := "GingerRents$Reader", name := "weather", desc := "(I)LGingerRents$Entry;" } : Jvm.MethodName)) ∈ lw_tbl := lw_at lw_m4 21 rfl
theorem q892 : (Jvm.Cond.instanceMethod ({ cls := "GingerRents$Reader", name := "weather", desc := "(I)LGingerRents$Entry;" } : Jvm.MethodName)) ∈ lw_all := lw_g (lw_at lw_m4 22 rfl) rfl
theorem q893 : (Jvm.Cond.code ({ cls := "GingerRents$Reader", name := "weather", desc := "(I)LGingerRents$Entry;" } : Jvm.MethodName) prog_17_method_23_code (3 : Nat) (Option.some (Jvm.ClassFile.FieldType.object "GingerRents$Entry"))) ∈ lw_all := lw_g (lw_at lw_m4 23 rfl) rfl
theorem q894 : (Jvm.Cond.classLink "GingerRents$Reader" (220 : Nat) "GingerRents$Rain") ∈ lw_all := lw_g (lw_at lw_m4 24 rfl) rfl
theorem q896 : (Jvm.Cond.methodLink "GingerRents$Reader" (222 : Nat) ({ cls := "GingerRents$Rain", name := "<init>", desc := "(II)V" } : Jvm.MethodName)) ∈ lw_all := lw_g (lw_at lw_m4 26 rfl) rfl
theorem q910 : (Jvm.Cond.classLink "GingerRents$Reader" (223 : Nat) "GingerRents$Frost") ∈ lw_all := lw_g (lw_at lw_m4 40 rfl) rfl
theorem q912 : (Jvm.Cond.methodLink "GingerRents$Reader" (225 : Nat) ({ cls := "GingerRents$Frost", name := "<init>", desc := "(II)V" } : Jvm.MethodName)) ∈ lw_all := lw_g (lw_at lw_m4 42 rfl) rfl
theorem q919 : (Jvm.Cond.methodLink "GingerRents$Reader" (248 : Nat) ({ cls := "GingerRents$Reader", name := "order", desc := "(I)LGingerRents$Entry;" } : Jvm.MethodName)) ∈ lw_all := lw_g (lw_at lw_m4 49 rfl) rfl
theorem q920 : (Jvm.Cond.privateMethod ({ cls := "GingerRents$Reader", name := "order", desc := "(I)LGingerRents$Entry;" } : Jvm.MethodName)) ∈ lw_tbl := lw_at lw_m4 50 rfl
theorem q921 : (Jvm.Cond.instanceMethod ({ cls := "GingerRents$Reader", name := "order", desc := "(I)LGingerRents$Entry;" } : Jvm.MethodName)) ∈ lw_all := lw_g (lw_at lw_m4 51 rfl) rfl
theorem q922 : (Jvm.Cond.code ({ cls := "GingerRents$Reader", name := "order", desc := "(I)LGingerRents$Entry;" } : Jvm.MethodName) prog_17_method_24_code (5 : Nat) (Option.some (Jvm.ClassFile.FieldType.object "GingerRents$Entry"))) ∈ lw_all := lw_g (lw_at lw_m4 52 rfl) rfl
theorem q923 : (Jvm.Cond.methodLink "GingerRents$Reader" (226 : Nat) ({ cls := "GingerRents$Reader", name := "house", desc := "()I" } : Jvm.MethodName)) ∈ lw_all := lw_g (lw_at lw_m4 53 rfl) rfl
theorem q924 : (Jvm.Cond.privateMethod ({ cls := "GingerRents$Reader", name := "house", desc := "()I" } : Jvm.MethodName)) ∈ lw_tbl := lw_at lw_m4 54 rfl
theorem q925 : (Jvm.Cond.instanceMethod ({ cls := "GingerRents$Reader", name := "house", desc := "()I" } : Jvm.MethodName)) ∈ lw_all := lw_g (lw_at lw_m4 55 rfl) rfl
theorem q926 : (Jvm.Cond.code ({ cls := "GingerRents$Reader", name := "house", desc := "()I" } : Jvm.MethodName) prog_17_method_11_code (1 : Nat) (Option.some Jvm.ClassFile.FieldType.int)) ∈ lw_all := lw_g (lw_at lw_m4 56 rfl) rfl
theorem q927 : (Jvm.Cond.classLink "GingerRents$Reader" (228 : Nat) "GingerRents$Ice") ∈ lw_all := lw_g (lw_at lw_m4 57 rfl) rfl
theorem q929 : (Jvm.Cond.methodLink "GingerRents$Reader" (230 : Nat) ({ cls := "GingerRents$Ice", name := "<init>", desc := "(III)V" } : Jvm.MethodName)) ∈ lw_all := lw_g (lw_at lw_m4 59 rfl) rfl
theorem q939 : (Jvm.Cond.classLink "GingerRents$Reader" (233 : Nat) "GingerRents$Bake") ∈ lw_all := lw_g (lw_at lw_m4 69 rfl) rfl
theorem q941 : (Jvm.Cond.methodLink "GingerRents$Reader" (235 : Nat) ({ cls := "GingerRents$Bake", name := "<init>", desc := "(IIII)V" } : Jvm.MethodName)) ∈ lw_all := lw_g (lw_at lw_m4 71 rfl) rfl
theorem q954 : (Jvm.Cond.classLink "GingerRents$Reader" (238 : Nat) "GingerRents$Wedding") ∈ lw_all := lw_g (lw_at lw_m4 84 rfl) rfl
theorem q956 : (Jvm.Cond.methodLink "GingerRents$Reader" (240 : Nat) ({ cls := "GingerRents$Wedding", name := "<init>", desc := "(II)V" } : Jvm.MethodName)) ∈ lw_all := lw_g (lw_at lw_m4 86 rfl) rfl
theorem q963 : (Jvm.Cond.classLink "GingerRents$Reader" (241 : Nat) "GingerRents$Razing") ∈ lw_all := lw_g (lw_at lw_m4 93 rfl) rfl
theorem q965 : (Jvm.Cond.methodLink "GingerRents$Reader" (243 : Nat) ({ cls := "GingerRents$Razing", name := "<init>", desc := "(II)V" } : Jvm.MethodName)) ∈ lw_all := lw_g (lw_at lw_m4 95 rfl) rfl
theorem q977 : (Jvm.Cond.instanceMethod ({ cls := "GingerRents$Reader", name := "neighbours", desc := "()[I" } : Jvm.MethodName)) ∈ lw_all := lw_g (lw_at lw_m4 107 rfl) rfl
theorem q978 : (Jvm.Cond.selects "GingerRents$Reader" ({ cls := "GingerRents$Reader", name := "neighbours", desc := "()[I" } : Jvm.MethodName) ({ cls := "GingerRents$Reader", name := "neighbours", desc := "()[I" } : Jvm.MethodName)) ∈ lw_all := lw_g (lw_at lw_m4 108 rfl) rfl
theorem q979 : (Jvm.Cond.code ({ cls := "GingerRents$Reader", name := "neighbours", desc := "()[I" } : Jvm.MethodName) prog_17_method_26_code (3 : Nat) (Option.some (Jvm.ClassFile.FieldType.array Jvm.ClassFile.FieldType.int))) ∈ lw_all := lw_g (lw_at lw_m4 109 rfl) rfl
theorem q2264 : (Jvm.Cond.castable "GingerRents$Reader" "java/lang/Object") ∈ lw_tbl := lw_at lw_m9 194 rfl
theorem in_X5 : ∀ w ∈ wsX50, w ∈ lw_all := lw_in wsX50 [506, 508, 510, 512, 514, 516, 518, 520, 522] (by decide +kernel) (by decide +kernel)

/-! GingerRents$Fault -/
set_option maxRecDepth 100000
def RX6 : String := "GingerRents$Fault"
def TX6 : u_T := fun k => match k with
  | 0 => ("java/lang/Throwable", "cause", "Ljava/lang/Throwable;", false)
  | 1 => ("java/lang/Throwable", "stackTrace", "[Ljava/lang/StackTraceElement;", false)
  | 2 => ("java/lang/Throwable", "suppressedExceptions", "Ljava/util/List;", false)
  | 3 => ("java/lang/Throwable", "detailMessage", "Ljava/lang/String;", false)
  | 4 => ("java/lang/Throwable", "backtrace", "Ljava/lang/Object;", false)
  | 5 => ("java/lang/Throwable", "depth", "I", false)
  | 6 => ("GingerRents$Fault", "kind", "I", true)
  | _ => ("GingerRents$Fault", "place", "I", true)
def tyX6 : Nat → FieldType := fun k => match k with
  | 0 => .object "java/lang/Throwable"
  | 1 => .array (.object "java/lang/StackTraceElement")
  | 2 => .object "java/util/List"
  | 3 => .object "java/lang/String"
  | 4 => .object "java/lang/Object"
  | 5 => .int
  | 6 => .int
  | _ => .int
abbrev wsX60 : List Cond := u_ws RX6 TX6 8
theorem nmX6 : ∀ a, a < 8 → ∀ b, b < 8 → a ≠ b → (TX6 a).2.1 ≠ (TX6 b).2.1 := by decide +kernel
theorem tyX6_ok : ∀ k, k < 8 → parseFieldDescriptor (TX6 k).2.2.1 = some (tyX6 k) := by decide +kernel
abbrev cX6_init : ByteArray := prog_6_method_1_code
def yX6_init : MethodName := ⟨RX6, "<init>", "(II)V"⟩
def dkwX6_init_0 : List UInt8 := [42, 183, 0, 1, 42, 27, 181, 0, 7, 42, 28, 181, 0, 13, 177]
abbrev dktX6_init_0 : List UInt8 := dkwX6_init_0 ++ []
theorem dksX6_init_0 : cX6_init.data.toList.drop 0 = dktX6_init_0 := by decide +kernel
theorem dX6_init_0 : decode cX6_init 0 = .ok (.aload_n 0, 1) := dk_42 (dk_at dksX6_init_0 0 rfl rfl)
theorem dX6_init_1 : decode cX6_init 1 = .ok (.invokespecial 1, 3) := dk_183 0 1 (dk_at dksX6_init_0 1 rfl rfl)
theorem dX6_init_4 : decode cX6_init 4 = .ok (.aload_n 0, 1) := dk_42 (dk_at dksX6_init_0 4 rfl rfl)
theorem dX6_init_5 : decode cX6_init 5 = .ok (.iload_n 1, 1) := dk_27 (dk_at dksX6_init_0 5 rfl rfl)
theorem dX6_init_6 : decode cX6_init 6 = .ok (.putfield 7, 3) := dk_181 0 7 (dk_at dksX6_init_0 6 rfl rfl)
theorem dX6_init_9 : decode cX6_init 9 = .ok (.aload_n 0, 1) := dk_42 (dk_at dksX6_init_0 9 rfl rfl)
theorem dX6_init_10 : decode cX6_init 10 = .ok (.iload_n 2, 1) := dk_28 (dk_at dksX6_init_0 10 rfl rfl)
theorem dX6_init_11 : decode cX6_init 11 = .ok (.putfield 13, 3) := dk_181 0 13 (dk_at dksX6_init_0 11 rfl rfl)
theorem dX6_init_14 : decode cX6_init 14 = .ok (.return_, 1) := dk_177 (dk_at dksX6_init_0 14 rfl rfl)
theorem q169 : (Jvm.Cond.initialized "GingerRents$Fault") ∈ lw_all := lw_g (lw_at lw_m1 19 rfl) rfl
theorem q648 : (Jvm.Cond.instantiable "GingerRents$Fault" (8 : Nat)) ∈ lw_all := lw_g (lw_at lw_m3 18 rfl) rfl
theorem q649 : (Jvm.Cond.castable "GingerRents$Fault" "GingerRents$Fault") ∈ lw_tbl := lw_at lw_m3 19 rfl
theorem q654 : (Jvm.Cond.selects "GingerRents$Fault" ({ cls := "java/lang/Throwable", name := "fillInStackTrace", desc := "(I)Ljava/lang/Throwable;" } : Jvm.MethodName) ({ cls := "java/lang/Throwable", name := "fillInStackTrace", desc := "(I)Ljava/lang/Throwable;" } : Jvm.MethodName)) ∈ lw_all := lw_g (lw_at lw_m3 24 rfl) rfl
theorem q655 : (Jvm.Cond.selects "GingerRents$Fault" ({ cls := "java/lang/Throwable", name := "fillInStackTrace", desc := "()Ljava/lang/Throwable;" } : Jvm.MethodName) ({ cls := "java/lang/Throwable", name := "fillInStackTrace", desc := "()Ljava/lang/Throwable;" } : Jvm.MethodName)) ∈ lw_all := lw_g (lw_at lw_m3 25 rfl) rfl
theorem q656 : (Jvm.Cond.lays "GingerRents$Fault" "java/lang/Throwable" "cause" "Ljava/lang/Throwable;") ∈ lw_all := lw_g (lw_at lw_m3 26 rfl) rfl
theorem q658 : (Jvm.Cond.lays "GingerRents$Fault" "java/lang/Throwable" "stackTrace" "[Ljava/lang/StackTraceElement;") ∈ lw_all := lw_g (lw_at lw_m3 28 rfl) rfl
theorem q660 : (Jvm.Cond.lays "GingerRents$Fault" "java/lang/Throwable" "suppressedExceptions" "Ljava/util/List;") ∈ lw_all := lw_g (lw_at lw_m3 30 rfl) rfl
theorem q662 : (Jvm.Cond.lays "GingerRents$Fault" "java/lang/Throwable" "detailMessage" "Ljava/lang/String;") ∈ lw_all := lw_g (lw_at lw_m3 32 rfl) rfl
theorem q664 : (Jvm.Cond.lays "GingerRents$Fault" "java/lang/Throwable" "backtrace" "Ljava/lang/Object;") ∈ lw_all := lw_g (lw_at lw_m3 34 rfl) rfl
theorem q685 : (Jvm.Cond.instanceMethod ({ cls := "GingerRents$Fault", name := "<init>", desc := "(II)V" } : Jvm.MethodName)) ∈ lw_all := lw_g (lw_at lw_m3 55 rfl) rfl
theorem q686 : (Jvm.Cond.code ({ cls := "GingerRents$Fault", name := "<init>", desc := "(II)V" } : Jvm.MethodName) prog_6_method_1_code (3 : Nat) (Option.none : Option Jvm.ClassFile.FieldType)) ∈ lw_all := lw_g (lw_at lw_m3 56 rfl) rfl
theorem q687 : (Jvm.Cond.methodLink "GingerRents$Fault" (1 : Nat) ({ cls := "java/lang/Exception", name := "<init>", desc := "()V" } : Jvm.MethodName)) ∈ lw_all := lw_g (lw_at lw_m3 57 rfl) rfl
theorem q691 : (Jvm.Cond.fieldLink "GingerRents$Fault" (7 : Nat) "GingerRents$Fault" "kind" "I") ∈ lw_all := lw_g (lw_at lw_m3 61 rfl) rfl
theorem q693 : (Jvm.Cond.fieldLink "GingerRents$Fault" (13 : Nat) "GingerRents$Fault" "place" "I") ∈ lw_all := lw_g (lw_at lw_m3 63 rfl) rfl
theorem q699 : (Jvm.Cond.laysFinal "GingerRents$Fault" "GingerRents$Fault" "kind" "I") ∈ lw_all := lw_g (lw_at lw_m3 69 rfl) rfl
theorem q700 : (Jvm.Cond.soleField "GingerRents$Fault" "kind") ∈ lw_all := lw_g (lw_at lw_m3 70 rfl) rfl
theorem q701 : (Jvm.Cond.laysFinal "GingerRents$Fault" "GingerRents$Fault" "place" "I") ∈ lw_all := lw_g (lw_at lw_m3 71 rfl) rfl
theorem q702 : (Jvm.Cond.soleField "GingerRents$Fault" "place") ∈ lw_all := lw_g (lw_at lw_m3 72 rfl) rfl
theorem q707 : (Jvm.Cond.lays "GingerRents$Fault" "java/lang/Throwable" "depth" "I") ∈ lw_all := lw_g (lw_at lw_m3 77 rfl) rfl
theorem q710 : (Jvm.Cond.superclass "GingerRents$Fault" "java/lang/Exception") ∈ lw_all := lw_g (lw_at lw_m3 80 rfl) rfl
theorem q854 : (Jvm.Cond.selects "GingerRents$Fault" ({ cls := "java/lang/Object", name := "getClass", desc := "()Ljava/lang/Class;" } : Jvm.MethodName) ({ cls := "java/lang/Object", name := "getClass", desc := "()Ljava/lang/Class;" } : Jvm.MethodName)) ∈ lw_all := lw_g (lw_at lw_m3 224 rfl) rfl
theorem q2265 : (Jvm.Cond.castable "GingerRents$Fault" "java/lang/Object") ∈ lw_tbl := lw_at lw_m9 195 rfl
theorem in_X6 : ∀ w ∈ wsX60, w ∈ lw_all := lw_in wsX60 [656, 658, 660, 662, 664, 707, 699, 701] (by decide +kernel) (by decide +kernel)

/-! GingerRents$Term -/
set_option maxRecDepth 100000
def RX7 : String := "GingerRents$Term"
abbrev cX7_init : ByteArray := prog_19_method_1_code
def yX7_init : MethodName := ⟨RX7, "<init>", "()V"⟩
theorem dX7_init_0 : decode cX7_init 0 = .ok (.aload_n 0, 1) := by decide +kernel
theorem dX7_init_1 : decode cX7_init 1 = .ok (.invokespecial 1, 3) := by decide +kernel
theorem dX7_init_4 : decode cX7_init 4 = .ok (.return_, 1) := by decide +kernel
theorem q170 : (Jvm.Cond.initialized "GingerRents$Term") ∈ lw_all := lw_g (lw_at lw_m1 20 rfl) rfl
theorem q737 : (Jvm.Cond.instanceMethod ({ cls := "GingerRents$Term", name := "<init>", desc := "()V" } : Jvm.MethodName)) ∈ lw_all := lw_g (lw_at lw_m3 107 rfl) rfl
theorem q738 : (Jvm.Cond.code ({ cls := "GingerRents$Term", name := "<init>", desc := "()V" } : Jvm.MethodName) prog_19_method_1_code (1 : Nat) (Option.none : Option Jvm.ClassFile.FieldType)) ∈ lw_all := lw_g (lw_at lw_m3 108 rfl) rfl
theorem q739 : (Jvm.Cond.methodLink "GingerRents$Term" (1 : Nat) ({ cls := "java/lang/Object", name := "<init>", desc := "()V" } : Jvm.MethodName)) ∈ lw_all := lw_g (lw_at lw_m3 109 rfl) rfl
theorem q1189 : (Jvm.Cond.declares ({ cls := "GingerRents$Term", name := "of", desc := "(LGingerRents$Asker;)I" } : Jvm.MethodName)) ∈ lw_tbl := lw_at lw_m5 79 rfl
theorem q1190 : (Jvm.Cond.sameMethod "GingerRents$Term" "GingerRents$Term" "of" "(LGingerRents$Asker;)I") ∈ lw_all := lw_g (lw_at lw_m5 80 rfl) rfl

/-! GingerRents$Fixed -/
set_option maxRecDepth 100000
def RX8 : String := "GingerRents$Fixed"
def TX8 : u_T := fun k => match k with
  | _ => ("GingerRents$Fixed", "value", "I", true)
def tyX8 : Nat → FieldType := fun k => match k with
  | _ => .int
abbrev wsX80 : List Cond := u_ws RX8 TX8 1
theorem nmX8 : ∀ a, a < 1 → ∀ b, b < 1 → a ≠ b → (TX8 a).2.1 ≠ (TX8 b).2.1 := by decide +kernel
theorem tyX8_ok : ∀ k, k < 1 → parseFieldDescriptor (TX8 k).2.2.1 = some (tyX8 k) := by decide +kernel
abbrev cX8_init : ByteArray := prog_7_method_1_code
def yX8_init : MethodName := ⟨RX8, "<init>", "(I)V"⟩
def dkwX8_init_0 : List UInt8 := [42, 183, 0, 1, 42, 27, 181, 0, 7, 177]
abbrev dktX8_init_0 : List UInt8 := dkwX8_init_0 ++ []
theorem dksX8_init_0 : cX8_init.data.toList.drop 0 = dktX8_init_0 := by decide +kernel
theorem dX8_init_0 : decode cX8_init 0 = .ok (.aload_n 0, 1) := dk_42 (dk_at dksX8_init_0 0 rfl rfl)
theorem dX8_init_1 : decode cX8_init 1 = .ok (.invokespecial 1, 3) := dk_183 0 1 (dk_at dksX8_init_0 1 rfl rfl)
theorem dX8_init_4 : decode cX8_init 4 = .ok (.aload_n 0, 1) := dk_42 (dk_at dksX8_init_0 4 rfl rfl)
theorem dX8_init_5 : decode cX8_init 5 = .ok (.iload_n 1, 1) := dk_27 (dk_at dksX8_init_0 5 rfl rfl)
theorem dX8_init_6 : decode cX8_init 6 = .ok (.putfield 7, 3) := dk_181 0 7 (dk_at dksX8_init_0 6 rfl rfl)
theorem dX8_init_9 : decode cX8_init 9 = .ok (.return_, 1) := dk_177 (dk_at dksX8_init_0 9 rfl rfl)
abbrev cX8_of : ByteArray := prog_7_method_2_code
def yX8_of : MethodName := ⟨RX8, "of", "(LGingerRents$Asker;)I"⟩
theorem dX8_of_0 : decode cX8_of 0 = .ok (.aload_n 0, 1) := by decide +kernel
theorem dX8_of_1 : decode cX8_of 1 = .ok (.getfield 7, 3) := by decide +kernel
theorem dX8_of_4 : decode cX8_of 4 = .ok (.ireturn, 1) := by decide +kernel
theorem q171 : (Jvm.Cond.initialized "GingerRents$Fixed") ∈ lw_all := lw_g (lw_at lw_m1 21 rfl) rfl
theorem q728 : (Jvm.Cond.instantiable "GingerRents$Fixed" (1 : Nat)) ∈ lw_all := lw_g (lw_at lw_m3 98 rfl) rfl
theorem q734 : (Jvm.Cond.instanceMethod ({ cls := "GingerRents$Fixed", name := "<init>", desc := "(I)V" } : Jvm.MethodName)) ∈ lw_all := lw_g (lw_at lw_m3 104 rfl) rfl
theorem q735 : (Jvm.Cond.code ({ cls := "GingerRents$Fixed", name := "<init>", desc := "(I)V" } : Jvm.MethodName) prog_7_method_1_code (2 : Nat) (Option.none : Option Jvm.ClassFile.FieldType)) ∈ lw_all := lw_g (lw_at lw_m3 105 rfl) rfl
theorem q736 : (Jvm.Cond.methodLinkNest "GingerRents$Fixed" (1 : Nat) ({ cls := "GingerRents$Term", name := "<init>", desc := "()V" } : Jvm.MethodName) "GingerRents") ∈ lw_tbl := lw_at lw_m3 106 rfl
theorem q740 : (Jvm.Cond.fieldLink "GingerRents$Fixed" (7 : Nat) "GingerRents$Fixed" "value" "I") ∈ lw_all := lw_g (lw_at lw_m3 110 rfl) rfl
theorem q741 : (Jvm.Cond.laysFinal "GingerRents$Fixed" "GingerRents$Fixed" "value" "I") ∈ lw_all := lw_g (lw_at lw_m3 111 rfl) rfl
theorem q742 : (Jvm.Cond.soleField "GingerRents$Fixed" "value") ∈ lw_all := lw_g (lw_at lw_m3 112 rfl) rfl
theorem q743 : (Jvm.Cond.superclass "GingerRents$Fixed" "GingerRents$Term") ∈ lw_all := lw_g (lw_at lw_m3 113 rfl) rfl
theorem q855 : (Jvm.Cond.selects "GingerRents$Fixed" ({ cls := "java/lang/Object", name := "getClass", desc := "()Ljava/lang/Class;" } : Jvm.MethodName) ({ cls := "java/lang/Object", name := "getClass", desc := "()Ljava/lang/Class;" } : Jvm.MethodName)) ∈ lw_all := lw_g (lw_at lw_m3 225 rfl) rfl
theorem q1191 : (Jvm.Cond.selects "GingerRents$Fixed" ({ cls := "GingerRents$Term", name := "of", desc := "(LGingerRents$Asker;)I" } : Jvm.MethodName) ({ cls := "GingerRents$Fixed", name := "of", desc := "(LGingerRents$Asker;)I" } : Jvm.MethodName)) ∈ lw_all := lw_g (lw_at lw_m5 81 rfl) rfl
theorem q1192 : (Jvm.Cond.instanceMethod ({ cls := "GingerRents$Fixed", name := "of", desc := "(LGingerRents$Asker;)I" } : Jvm.MethodName)) ∈ lw_all := lw_g (lw_at lw_m5 82 rfl) rfl
theorem q1193 : (Jvm.Cond.code ({ cls := "GingerRents$Fixed", name := "of", desc := "(LGingerRents$Asker;)I" } : Jvm.MethodName) prog_7_method_2_code (2 : Nat) (Option.some Jvm.ClassFile.FieldType.int)) ∈ lw_all := lw_g (lw_at lw_m5 83 rfl) rfl
theorem q2266 : (Jvm.Cond.castable "GingerRents$Fixed" "java/lang/Object") ∈ lw_tbl := lw_at lw_m9 196 rfl
theorem in_X8 : ∀ w ∈ wsX80, w ∈ lw_all := lw_in wsX80 [741] (by decide +kernel) (by decide +kernel)

/-! GingerRents$Known -/
set_option maxRecDepth 100000
def RX9 : String := "GingerRents$Known"
def TX9 : u_T := fun k => match k with
  | _ => ("GingerRents$Known", "what", "I", true)
def tyX9 : Nat → FieldType := fun k => match k with
  | _ => .int
abbrev wsX90 : List Cond := u_ws RX9 TX9 1
theorem nmX9 : ∀ a, a < 1 → ∀ b, b < 1 → a ≠ b → (TX9 a).2.1 ≠ (TX9 b).2.1 := by decide +kernel
theorem tyX9_ok : ∀ k, k < 1 → parseFieldDescriptor (TX9 k).2.2.1 = some (tyX9 k) := by decide +kernel
abbrev cX9_init : ByteArray := prog_12_method_1_code
def yX9_init : MethodName := ⟨RX9, "<init>", "(I)V"⟩
def dkwX9_init_0 : List UInt8 := [42, 183, 0, 1, 42, 27, 181, 0, 7, 177]
abbrev dktX9_init_0 : List UInt8 := dkwX9_init_0 ++ []
theorem dksX9_init_0 : cX9_init.data.toList.drop 0 = dktX9_init_0 := by decide +kernel
theorem dX9_init_0 : decode cX9_init 0 = .ok (.aload_n 0, 1) := dk_42 (dk_at dksX9_init_0 0 rfl rfl)
theorem dX9_init_1 : decode cX9_init 1 = .ok (.invokespecial 1, 3) := dk_183 0 1 (dk_at dksX9_init_0 1 rfl rfl)
theorem dX9_init_4 : decode cX9_init 4 = .ok (.aload_n 0, 1) := dk_42 (dk_at dksX9_init_0 4 rfl rfl)
theorem dX9_init_5 : decode cX9_init 5 = .ok (.iload_n 1, 1) := dk_27 (dk_at dksX9_init_0 5 rfl rfl)
theorem dX9_init_6 : decode cX9_init 6 = .ok (.putfield 7, 3) := dk_181 0 7 (dk_at dksX9_init_0 6 rfl rfl)
theorem dX9_init_9 : decode cX9_init 9 = .ok (.return_, 1) := dk_177 (dk_at dksX9_init_0 9 rfl rfl)
abbrev cX9_of : ByteArray := prog_12_method_2_code
def yX9_of : MethodName := ⟨RX9, "of", "(LGingerRents$Asker;)I"⟩
def dkwX9_of_0 : List UInt8 := [43, 42, 180, 0, 7, 185, 0, 13, 2, 0, 172]
abbrev dktX9_of_0 : List UInt8 := dkwX9_of_0 ++ []
theorem dksX9_of_0 : cX9_of.data.toList.drop 0 = dktX9_of_0 := by decide +kernel
theorem dX9_of_0 : decode cX9_of 0 = .ok (.aload_n 1, 1) := dk_43 (dk_at dksX9_of_0 0 rfl rfl)
theorem dX9_of_1 : decode cX9_of 1 = .ok (.aload_n 0, 1) := dk_42 (dk_at dksX9_of_0 1 rfl rfl)
theorem dX9_of_2 : decode cX9_of 2 = .ok (.getfield 7, 3) := dk_180 0 7 (dk_at dksX9_of_0 2 rfl rfl)
theorem dX9_of_5 : decode cX9_of 5 = .ok (.invokeinterface 13 2, 5) := by decide +kernel
theorem dX9_of_10 : decode cX9_of 10 = .ok (.ireturn, 1) := dk_172 (dk_at dksX9_of_0 10 rfl rfl)
theorem q172 : (Jvm.Cond.initialized "GingerRents$Known") ∈ lw_all := lw_g (lw_at lw_m1 22 rfl) rfl
theorem q745 : (Jvm.Cond.instantiable "GingerRents$Known" (1 : Nat)) ∈ lw_all := lw_g (lw_at lw_m3 115 rfl) rfl
theorem q747 : (Jvm.Cond.instanceMethod ({ cls := "GingerRents$Known", name := "<init>", desc := "(I)V" } : Jvm.MethodName)) ∈ lw_all := lw_g (lw_at lw_m3 117 rfl) rfl
theorem q748 : (Jvm.Cond.code ({ cls := "GingerRents$Known", name := "<init>", desc := "(I)V" } : Jvm.MethodName) prog_12_method_1_code (2 : Nat) (Option.none : Option Jvm.ClassFile.FieldType)) ∈ lw_all := lw_g (lw_at lw_m3 118 rfl) rfl
theorem q749 : (Jvm.Cond.methodLinkNest "GingerRents$Known" (1 : Nat) ({ cls := "GingerRents$Term", name := "<init>", desc := "()V" } : Jvm.MethodName) "GingerRents") ∈ lw_tbl := lw_at lw_m3 119 rfl
theorem q750 : (Jvm.Cond.fieldLink "GingerRents$Known" (7 : Nat) "GingerRents$Known" "what" "I") ∈ lw_all := lw_g (lw_at lw_m3 120 rfl) rfl
theorem q751 : (Jvm.Cond.laysFinal "GingerRents$Known" "GingerRents$Known" "what" "I") ∈ lw_all := lw_g (lw_at lw_m3 121 rfl) rfl
theorem q752 : (Jvm.Cond.soleField "GingerRents$Known" "what") ∈ lw_all := lw_g (lw_at lw_m3 122 rfl) rfl
theorem q753 : (Jvm.Cond.superclass "GingerRents$Known" "GingerRents$Term") ∈ lw_all := lw_g (lw_at lw_m3 123 rfl) rfl
theorem q860 : (Jvm.Cond.selects "GingerRents$Known" ({ cls := "java/lang/Object", name := "getClass", desc := "()Ljava/lang/Class;" } : Jvm.MethodName) ({ cls := "java/lang/Object", name := "getClass", desc := "()Ljava/lang/Class;" } : Jvm.MethodName)) ∈ lw_all := lw_g (lw_at lw_m3 230 rfl) rfl
theorem q1198 : (Jvm.Cond.instanceMethod ({ cls := "GingerRents$Known", name := "of", desc := "(LGingerRents$Asker;)I" } : Jvm.MethodName)) ∈ lw_all := lw_g (lw_at lw_m5 88 rfl) rfl
theorem q1199 : (Jvm.Cond.code ({ cls := "GingerRents$Known", name := "of", desc := "(LGingerRents$Asker;)I" } : Jvm.MethodName) prog_12_method_2_code (2 : Nat) (Option.some Jvm.ClassFile.FieldType.int)) ∈ lw_all := lw_g (lw_at lw_m5 89 rfl) rfl
theorem q1200 : (Jvm.Cond.interfaceEntry "GingerRents$Known" (13 : Nat)) ∈ lw_tbl := lw_at lw_m5 90 rfl
theorem q1201 : (Jvm.Cond.methodLink "GingerRents$Known" (13 : Nat) ({ cls := "GingerRents$Asker", name := "fact", desc := "(I)I" } : Jvm.MethodName)) ∈ lw_all := lw_g (lw_at lw_m5 91 rfl) rfl
theorem q1214 : (Jvm.Cond.selects "GingerRents$Known" ({ cls := "GingerRents$Term", name := "of", desc := "(LGingerRents$Asker;)I" } : Jvm.MethodName) ({ cls := "GingerRents$Known", name := "of", desc := "(LGingerRents$Asker;)I" } : Jvm.MethodName)) ∈ lw_all := lw_g (lw_at lw_m5 104 rfl) rfl
theorem q2267 : (Jvm.Cond.castable "GingerRents$Known" "java/lang/Object") ∈ lw_tbl := lw_at lw_m9 197 rfl
theorem in_X9 : ∀ w ∈ wsX90, w ∈ lw_all := lw_in wsX90 [751] (by decide +kernel) (by decide +kernel)
