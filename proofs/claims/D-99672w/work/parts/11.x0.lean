/-! GingerRents -/
set_option maxRecDepth 100000
def RX0 : String := "GingerRents"
def TX0 : u_T := fun k => match k with
  | 0 => ("GingerRents", "tape", "[B", true)
  | 1 => ("GingerRents", "taped", "I", false)
  | 2 => ("GingerRents", "faultKind", "I", false)
  | 3 => ("GingerRents", "faultPlace", "I", false)
  | 4 => ("GingerRents", "borough", "LGingerRents$Borough;", true)
  | 5 => ("GingerRents", "kept", "LGingerRents$Borough;", true)
  | 6 => ("GingerRents", "thought", "LGingerRents$Borough;", true)
  | 7 => ("GingerRents", "back", "[LGingerRents$Borough;", true)
  | 8 => ("GingerRents", "backMany", "I", false)
  | 9 => ("GingerRents", "hasImage", "Z", false)
  | 10 => ("GingerRents", "costTo", "[I", true)
  | 11 => ("GingerRents", "leastOf", "[[I", true)
  | 12 => ("GingerRents", "pansFor", "[I", true)
  | 13 => ("GingerRents", "stoodOn", "[I", true)
  | 14 => ("GingerRents", "order", "[I", true)
  | 15 => ("GingerRents", "bestOrder", "[I", true)
  | 16 => ("GingerRents", "earliest", "I", false)
  | 17 => ("GingerRents", "waysTo", "[[I", true)
  | _ => ("GingerRents", "isLost", "[I", true)
def tyX0 : Nat → FieldType := fun k => match k with
  | 0 => .array .byte
  | 1 => .int
  | 2 => .int
  | 3 => .int
  | 4 => .object "GingerRents$Borough"
  | 5 => .object "GingerRents$Borough"
  | 6 => .object "GingerRents$Borough"
  | 7 => .array (.object "GingerRents$Borough")
  | 8 => .int
  | 9 => .boolean
  | 10 => .array .int
  | 11 => .array (.array .int)
  | 12 => .array .int
  | 13 => .array .int
  | 14 => .array .int
  | 15 => .array .int
  | 16 => .int
  | 17 => .array (.array .int)
  | _ => .array .int
abbrev wsX00 : List Cond := u_ws RX0 TX0 19
set_option maxRecDepth 100000 in
theorem nmX0 : ∀ a, a < 19 → ∀ b, b < 19 → a ≠ b → (TX0 a).2.1 ≠ (TX0 b).2.1 := by decide +kernel
set_option maxRecDepth 100000 in
theorem tyX0_ok : ∀ k, k < 19 → parseFieldDescriptor (TX0 k).2.2.1 = some (tyX0 k) := by decide +kernel
abbrev cX0_init : ByteArray := prog_1_method_1_code
def yX0_init : MethodName := ⟨RX0, "<init>", "()V"⟩
def dkwX0_init_7 : List UInt8 := [17, 65, 167, 188, 10, 181, 0, 62, 177]
abbrev dktX0_init_7 : List UInt8 := dkwX0_init_7 ++ []
def dkwX0_init_6 : List UInt8 := [181, 0, 53, 42, 16, 6, 188, 10, 181, 0, 56, 42, 16, 21, 7, 197, 0, 42, 2, 181, 0, 59, 42]
abbrev dktX0_init_6 : List UInt8 := dkwX0_init_6 ++ dktX0_init_7
def dkwX0_init_5 : List UInt8 := [17, 1, 0, 188, 10, 181, 0, 47, 42, 17, 4, 65, 188, 10, 181, 0, 50, 42, 16, 6, 188, 10]
abbrev dktX0_init_5 : List UInt8 := dkwX0_init_5 ++ dktX0_init_6
def dkwX0_init_4 : List UInt8 := [167, 255, 234, 42, 16, 12, 188, 10, 181, 0, 38, 42, 16, 10, 16, 10, 197, 0, 42, 2, 181, 0, 44, 42]
abbrev dktX0_init_4 : List UInt8 := dkwX0_init_4 ++ dktX0_init_5
def dkwX0_init_3 : List UInt8 := [60, 27, 16, 6, 162, 0, 22, 42, 180, 0, 30, 27, 187, 0, 17, 89, 183, 0, 19, 83, 132, 1, 1]
abbrev dktX0_init_3 : List UInt8 := dkwX0_init_3 ++ dktX0_init_4
def dkwX0_init_2 : List UInt8 := [183, 0, 19, 181, 0, 27, 42, 16, 6, 189, 0, 17, 181, 0, 30, 42, 180, 0, 27, 4, 181, 0, 34, 3]
abbrev dktX0_init_2 : List UInt8 := dkwX0_init_2 ++ dktX0_init_3
def dkwX0_init_1 : List UInt8 := [183, 0, 19, 181, 0, 20, 42, 187, 0, 17, 89, 183, 0, 19, 181, 0, 24, 42, 187, 0, 17, 89]
abbrev dktX0_init_1 : List UInt8 := dkwX0_init_1 ++ dktX0_init_2
def dkwX0_init_0 : List UInt8 := [42, 183, 0, 1, 42, 17, 1, 144, 188, 8, 181, 0, 9, 42, 2, 181, 0, 13, 42, 187, 0, 17, 89]
abbrev dktX0_init_0 : List UInt8 := dkwX0_init_0 ++ dktX0_init_1
theorem dksX0_init_0 : cX0_init.data.toList.drop 0 = dktX0_init_0 := by decide +kernel
theorem dksX0_init_1 : cX0_init.data.toList.drop 23 = dktX0_init_1 := dk_seg dksX0_init_0 23 rfl rfl
theorem dksX0_init_2 : cX0_init.data.toList.drop 45 = dktX0_init_2 := dk_seg dksX0_init_1 22 rfl rfl
theorem dksX0_init_3 : cX0_init.data.toList.drop 69 = dktX0_init_3 := dk_seg dksX0_init_2 24 rfl rfl
theorem dksX0_init_4 : cX0_init.data.toList.drop 92 = dktX0_init_4 := dk_seg dksX0_init_3 23 rfl rfl
theorem dksX0_init_5 : cX0_init.data.toList.drop 116 = dktX0_init_5 := dk_seg dksX0_init_4 24 rfl rfl
theorem dksX0_init_6 : cX0_init.data.toList.drop 138 = dktX0_init_6 := dk_seg dksX0_init_5 22 rfl rfl
theorem dksX0_init_7 : cX0_init.data.toList.drop 161 = dktX0_init_7 := dk_seg dksX0_init_6 23 rfl rfl
theorem dX0_init_0 : decode cX0_init 0 = .ok (.aload_n 0, 1) := dk_42 (dk_at dksX0_init_0 0 rfl rfl)
theorem dX0_init_1 : decode cX0_init 1 = .ok (.invokespecial 1, 3) := dk_183 0 1 (dk_at dksX0_init_0 1 rfl rfl)
theorem dX0_init_4 : decode cX0_init 4 = .ok (.aload_n 0, 1) := dk_42 (dk_at dksX0_init_0 4 rfl rfl)
theorem dX0_init_5 : decode cX0_init 5 = .ok (.sipush 400, 3) := dk_17 1 144 (dk_at dksX0_init_0 5 rfl rfl)
theorem dX0_init_8 : decode cX0_init 8 = .ok (.newarray .byte, 2) := dk_188_8 (dk_at dksX0_init_0 8 rfl rfl)
theorem dX0_init_10 : decode cX0_init 10 = .ok (.putfield 9, 3) := dk_181 0 9 (dk_at dksX0_init_0 10 rfl rfl)
theorem dX0_init_13 : decode cX0_init 13 = .ok (.aload_n 0, 1) := dk_42 (dk_at dksX0_init_0 13 rfl rfl)
theorem dX0_init_14 : decode cX0_init 14 = .ok (.iconst (-1), 1) := dk_2 (dk_at dksX0_init_0 14 rfl rfl)
theorem dX0_init_15 : decode cX0_init 15 = .ok (.putfield 13, 3) := dk_181 0 13 (dk_at dksX0_init_0 15 rfl rfl)
theorem dX0_init_18 : decode cX0_init 18 = .ok (.aload_n 0, 1) := dk_42 (dk_at dksX0_init_0 18 rfl rfl)
theorem dX0_init_19 : decode cX0_init 19 = .ok (.new 17, 3) := dk_187 0 17 (dk_at dksX0_init_0 19 rfl rfl)
theorem dX0_init_22 : decode cX0_init 22 = .ok (.dup, 1) := dk_89 (dk_at dksX0_init_0 22 rfl rfl)
theorem dX0_init_23 : decode cX0_init 23 = .ok (.invokespecial 19, 3) := dk_183 0 19 (dk_at dksX0_init_1 0 rfl rfl)
theorem dX0_init_26 : decode cX0_init 26 = .ok (.putfield 20, 3) := dk_181 0 20 (dk_at dksX0_init_1 3 rfl rfl)
theorem dX0_init_29 : decode cX0_init 29 = .ok (.aload_n 0, 1) := dk_42 (dk_at dksX0_init_1 6 rfl rfl)
theorem dX0_init_30 : decode cX0_init 30 = .ok (.new 17, 3) := dk_187 0 17 (dk_at dksX0_init_1 7 rfl rfl)
theorem dX0_init_33 : decode cX0_init 33 = .ok (.dup, 1) := dk_89 (dk_at dksX0_init_1 10 rfl rfl)
theorem dX0_init_34 : decode cX0_init 34 = .ok (.invokespecial 19, 3) := dk_183 0 19 (dk_at dksX0_init_1 11 rfl rfl)
theorem dX0_init_37 : decode cX0_init 37 = .ok (.putfield 24, 3) := dk_181 0 24 (dk_at dksX0_init_1 14 rfl rfl)
theorem dX0_init_40 : decode cX0_init 40 = .ok (.aload_n 0, 1) := dk_42 (dk_at dksX0_init_1 17 rfl rfl)
theorem dX0_init_41 : decode cX0_init 41 = .ok (.new 17, 3) := dk_187 0 17 (dk_at dksX0_init_1 18 rfl rfl)
theorem dX0_init_44 : decode cX0_init 44 = .ok (.dup, 1) := dk_89 (dk_at dksX0_init_1 21 rfl rfl)
theorem dX0_init_45 : decode cX0_init 45 = .ok (.invokespecial 19, 3) := dk_183 0 19 (dk_at dksX0_init_2 0 rfl rfl)
theorem dX0_init_48 : decode cX0_init 48 = .ok (.putfield 27, 3) := dk_181 0 27 (dk_at dksX0_init_2 3 rfl rfl)
theorem dX0_init_51 : decode cX0_init 51 = .ok (.aload_n 0, 1) := dk_42 (dk_at dksX0_init_2 6 rfl rfl)
theorem dX0_init_52 : decode cX0_init 52 = .ok (.bipush 6, 2) := dk_16 6 (dk_at dksX0_init_2 7 rfl rfl)
theorem dX0_init_54 : decode cX0_init 54 = .ok (.anewarray 17, 3) := dk_189 0 17 (dk_at dksX0_init_2 9 rfl rfl)
theorem dX0_init_57 : decode cX0_init 57 = .ok (.putfield 30, 3) := dk_181 0 30 (dk_at dksX0_init_2 12 rfl rfl)
theorem dX0_init_60 : decode cX0_init 60 = .ok (.aload_n 0, 1) := dk_42 (dk_at dksX0_init_2 15 rfl rfl)
theorem dX0_init_61 : decode cX0_init 61 = .ok (.getfield 27, 3) := dk_180 0 27 (dk_at dksX0_init_2 16 rfl rfl)
theorem dX0_init_64 : decode cX0_init 64 = .ok (.iconst 1, 1) := dk_4 (dk_at dksX0_init_2 19 rfl rfl)
theorem dX0_init_65 : decode cX0_init 65 = .ok (.putfield 34, 3) := dk_181 0 34 (dk_at dksX0_init_2 20 rfl rfl)
theorem dX0_init_68 : decode cX0_init 68 = .ok (.iconst 0, 1) := dk_3 (dk_at dksX0_init_2 23 rfl rfl)
theorem dX0_init_69 : decode cX0_init 69 = .ok (.istore_n 1, 1) := dk_60 (dk_at dksX0_init_3 0 rfl rfl)
theorem dX0_init_70 : decode cX0_init 70 = .ok (.iload_n 1, 1) := dk_27 (dk_at dksX0_init_3 1 rfl rfl)
theorem dX0_init_71 : decode cX0_init 71 = .ok (.bipush 6, 2) := dk_16 6 (dk_at dksX0_init_3 2 rfl rfl)
theorem dX0_init_73 : decode cX0_init 73 = .ok (.if_icmp .ge 22, 3) := dk_162 0 22 (dk_at dksX0_init_3 4 rfl rfl)
theorem dX0_init_76 : decode cX0_init 76 = .ok (.aload_n 0, 1) := dk_42 (dk_at dksX0_init_3 7 rfl rfl)
theorem dX0_init_77 : decode cX0_init 77 = .ok (.getfield 30, 3) := dk_180 0 30 (dk_at dksX0_init_3 8 rfl rfl)
theorem dX0_init_80 : decode cX0_init 80 = .ok (.iload_n 1, 1) := dk_27 (dk_at dksX0_init_3 11 rfl rfl)
theorem dX0_init_81 : decode cX0_init 81 = .ok (.new 17, 3) := dk_187 0 17 (dk_at dksX0_init_3 12 rfl rfl)
theorem dX0_init_84 : decode cX0_init 84 = .ok (.dup, 1) := dk_89 (dk_at dksX0_init_3 15 rfl rfl)
theorem dX0_init_85 : decode cX0_init 85 = .ok (.invokespecial 19, 3) := dk_183 0 19 (dk_at dksX0_init_3 16 rfl rfl)
theorem dX0_init_88 : decode cX0_init 88 = .ok (.aastore, 1) := dk_83 (dk_at dksX0_init_3 19 rfl rfl)
theorem dX0_init_89 : decode cX0_init 89 = .ok (.iinc 1 1, 3) := dk_132 1 1 (dk_at dksX0_init_3 20 rfl rfl)
theorem dX0_init_92 : decode cX0_init 92 = .ok (.goto (-22), 3) := dk_167 255 234 (dk_at dksX0_init_4 0 rfl rfl)
theorem dX0_init_95 : decode cX0_init 95 = .ok (.aload_n 0, 1) := dk_42 (dk_at dksX0_init_4 3 rfl rfl)
theorem dX0_init_96 : decode cX0_init 96 = .ok (.bipush 12, 2) := dk_16 12 (dk_at dksX0_init_4 4 rfl rfl)
theorem dX0_init_98 : decode cX0_init 98 = .ok (.newarray .int, 2) := dk_188_10 (dk_at dksX0_init_4 6 rfl rfl)
theorem dX0_init_100 : decode cX0_init 100 = .ok (.putfield 38, 3) := dk_181 0 38 (dk_at dksX0_init_4 8 rfl rfl)
theorem dX0_init_103 : decode cX0_init 103 = .ok (.aload_n 0, 1) := dk_42 (dk_at dksX0_init_4 11 rfl rfl)
theorem dX0_init_104 : decode cX0_init 104 = .ok (.bipush 10, 2) := dk_16 10 (dk_at dksX0_init_4 12 rfl rfl)
theorem dX0_init_106 : decode cX0_init 106 = .ok (.bipush 10, 2) := dk_16 10 (dk_at dksX0_init_4 14 rfl rfl)
theorem dX0_init_108 : decode cX0_init 108 = .ok (.multianewarray 42 2, 4) := by decide +kernel
theorem dX0_init_112 : decode cX0_init 112 = .ok (.putfield 44, 3) := dk_181 0 44 (dk_at dksX0_init_4 20 rfl rfl)
theorem dX0_init_115 : decode cX0_init 115 = .ok (.aload_n 0, 1) := dk_42 (dk_at dksX0_init_4 23 rfl rfl)
theorem dX0_init_116 : decode cX0_init 116 = .ok (.sipush 256, 3) := dk_17 1 0 (dk_at dksX0_init_5 0 rfl rfl)
theorem dX0_init_119 : decode cX0_init 119 = .ok (.newarray .int, 2) := dk_188_10 (dk_at dksX0_init_5 3 rfl rfl)
theorem dX0_init_121 : decode cX0_init 121 = .ok (.putfield 47, 3) := dk_181 0 47 (dk_at dksX0_init_5 5 rfl rfl)
theorem dX0_init_124 : decode cX0_init 124 = .ok (.aload_n 0, 1) := dk_42 (dk_at dksX0_init_5 8 rfl rfl)
theorem dX0_init_125 : decode cX0_init 125 = .ok (.sipush 1089, 3) := dk_17 4 65 (dk_at dksX0_init_5 9 rfl rfl)
theorem dX0_init_128 : decode cX0_init 128 = .ok (.newarray .int, 2) := dk_188_10 (dk_at dksX0_init_5 12 rfl rfl)
theorem dX0_init_130 : decode cX0_init 130 = .ok (.putfield 50, 3) := dk_181 0 50 (dk_at dksX0_init_5 14 rfl rfl)
theorem dX0_init_133 : decode cX0_init 133 = .ok (.aload_n 0, 1) := dk_42 (dk_at dksX0_init_5 17 rfl rfl)
theorem dX0_init_134 : decode cX0_init 134 = .ok (.bipush 6, 2) := dk_16 6 (dk_at dksX0_init_5 18 rfl rfl)
theorem dX0_init_136 : decode cX0_init 136 = .ok (.newarray .int, 2) := dk_188_10 (dk_at dksX0_init_5 20 rfl rfl)
theorem dX0_init_138 : decode cX0_init 138 = .ok (.putfield 53, 3) := dk_181 0 53 (dk_at dksX0_init_6 0 rfl rfl)
theorem dX0_init_141 : decode cX0_init 141 = .ok (.aload_n 0, 1) := dk_42 (dk_at dksX0_init_6 3 rfl rfl)
theorem dX0_init_142 : decode cX0_init 142 = .ok (.bipush 6, 2) := dk_16 6 (dk_at dksX0_init_6 4 rfl rfl)
theorem dX0_init_144 : decode cX0_init 144 = .ok (.newarray .int, 2) := dk_188_10 (dk_at dksX0_init_6 6 rfl rfl)
theorem dX0_init_146 : decode cX0_init 146 = .ok (.putfield 56, 3) := dk_181 0 56 (dk_at dksX0_init_6 8 rfl rfl)
theorem dX0_init_149 : decode cX0_init 149 = .ok (.aload_n 0, 1) := dk_42 (dk_at dksX0_init_6 11 rfl rfl)
theorem dX0_init_150 : decode cX0_init 150 = .ok (.bipush 21, 2) := dk_16 21 (dk_at dksX0_init_6 12 rfl rfl)
theorem dX0_init_152 : decode cX0_init 152 = .ok (.iconst 4, 1) := dk_7 (dk_at dksX0_init_6 14 rfl rfl)
theorem dX0_init_153 : decode cX0_init 153 = .ok (.multianewarray 42 2, 4) := by decide +kernel
theorem dX0_init_157 : decode cX0_init 157 = .ok (.putfield 59, 3) := dk_181 0 59 (dk_at dksX0_init_6 19 rfl rfl)
theorem dX0_init_160 : decode cX0_init 160 = .ok (.aload_n 0, 1) := dk_42 (dk_at dksX0_init_6 22 rfl rfl)
theorem dX0_init_161 : decode cX0_init 161 = .ok (.sipush 16807, 3) := dk_17 65 167 (dk_at dksX0_init_7 0 rfl rfl)
theorem dX0_init_164 : decode cX0_init 164 = .ok (.newarray .int, 2) := dk_188_10 (dk_at dksX0_init_7 3 rfl rfl)
theorem dX0_init_166 : decode cX0_init 166 = .ok (.putfield 62, 3) := dk_181 0 62 (dk_at dksX0_init_7 5 rfl rfl)
theorem dX0_init_169 : decode cX0_init 169 = .ok (.return_, 1) := dk_177 (dk_at dksX0_init_7 8 rfl rfl)
abbrev cX0_feed : ByteArray := prog_1_method_4_code
def yX0_feed : MethodName := ⟨RX0, "feed", "(IIIII)I"⟩
def dkwX0_feed_2 : List UInt8 := [172]
abbrev dktX0_feed_2 : List UInt8 := dkwX0_feed_2 ++ []
def dkwX0_feed_1 : List UInt8 := [182, 0, 77, 42, 29, 182, 0, 77, 42, 21, 4, 182, 0, 77, 42, 21, 5, 182, 0, 77, 42, 180, 0, 74]
abbrev dktX0_feed_1 : List UInt8 := dkwX0_feed_1 ++ dktX0_feed_2
def dkwX0_feed_0 : List UInt8 := [42, 180, 0, 74, 16, 20, 96, 17, 1, 144, 164, 0, 5, 2, 172, 42, 27, 182, 0, 77, 42, 28]
abbrev dktX0_feed_0 : List UInt8 := dkwX0_feed_0 ++ dktX0_feed_1
theorem dksX0_feed_0 : cX0_feed.data.toList.drop 0 = dktX0_feed_0 := by decide +kernel
theorem dksX0_feed_1 : cX0_feed.data.toList.drop 22 = dktX0_feed_1 := dk_seg dksX0_feed_0 22 rfl rfl
theorem dksX0_feed_2 : cX0_feed.data.toList.drop 46 = dktX0_feed_2 := dk_seg dksX0_feed_1 24 rfl rfl
theorem dX0_feed_0 : decode cX0_feed 0 = .ok (.aload_n 0, 1) := dk_42 (dk_at dksX0_feed_0 0 rfl rfl)
theorem dX0_feed_1 : decode cX0_feed 1 = .ok (.getfield 74, 3) := dk_180 0 74 (dk_at dksX0_feed_0 1 rfl rfl)
theorem dX0_feed_4 : decode cX0_feed 4 = .ok (.bipush 20, 2) := dk_16 20 (dk_at dksX0_feed_0 4 rfl rfl)
theorem dX0_feed_6 : decode cX0_feed 6 = .ok (.iadd, 1) := dk_96 (dk_at dksX0_feed_0 6 rfl rfl)
theorem dX0_feed_7 : decode cX0_feed 7 = .ok (.sipush 400, 3) := dk_17 1 144 (dk_at dksX0_feed_0 7 rfl rfl)
theorem dX0_feed_10 : decode cX0_feed 10 = .ok (.if_icmp .le 5, 3) := dk_164 0 5 (dk_at dksX0_feed_0 10 rfl rfl)
theorem dX0_feed_13 : decode cX0_feed 13 = .ok (.iconst (-1), 1) := dk_2 (dk_at dksX0_feed_0 13 rfl rfl)
theorem dX0_feed_14 : decode cX0_feed 14 = .ok (.ireturn, 1) := dk_172 (dk_at dksX0_feed_0 14 rfl rfl)
theorem dX0_feed_15 : decode cX0_feed 15 = .ok (.aload_n 0, 1) := dk_42 (dk_at dksX0_feed_0 15 rfl rfl)
theorem dX0_feed_16 : decode cX0_feed 16 = .ok (.iload_n 1, 1) := dk_27 (dk_at dksX0_feed_0 16 rfl rfl)
theorem dX0_feed_17 : decode cX0_feed 17 = .ok (.invokevirtual 77, 3) := dk_182 0 77 (dk_at dksX0_feed_0 17 rfl rfl)
theorem dX0_feed_20 : decode cX0_feed 20 = .ok (.aload_n 0, 1) := dk_42 (dk_at dksX0_feed_0 20 rfl rfl)
theorem dX0_feed_21 : decode cX0_feed 21 = .ok (.iload_n 2, 1) := dk_28 (dk_at dksX0_feed_0 21 rfl rfl)
theorem dX0_feed_22 : decode cX0_feed 22 = .ok (.invokevirtual 77, 3) := dk_182 0 77 (dk_at dksX0_feed_1 0 rfl rfl)
theorem dX0_feed_25 : decode cX0_feed 25 = .ok (.aload_n 0, 1) := dk_42 (dk_at dksX0_feed_1 3 rfl rfl)
theorem dX0_feed_26 : decode cX0_feed 26 = .ok (.iload_n 3, 1) := dk_29 (dk_at dksX0_feed_1 4 rfl rfl)
theorem dX0_feed_27 : decode cX0_feed 27 = .ok (.invokevirtual 77, 3) := dk_182 0 77 (dk_at dksX0_feed_1 5 rfl rfl)
theorem dX0_feed_30 : decode cX0_feed 30 = .ok (.aload_n 0, 1) := dk_42 (dk_at dksX0_feed_1 8 rfl rfl)
theorem dX0_feed_31 : decode cX0_feed 31 = .ok (.iload 4, 2) := dk_21 4 (dk_at dksX0_feed_1 9 rfl rfl)
theorem dX0_feed_33 : decode cX0_feed 33 = .ok (.invokevirtual 77, 3) := dk_182 0 77 (dk_at dksX0_feed_1 11 rfl rfl)
theorem dX0_feed_36 : decode cX0_feed 36 = .ok (.aload_n 0, 1) := dk_42 (dk_at dksX0_feed_1 14 rfl rfl)
theorem dX0_feed_37 : decode cX0_feed 37 = .ok (.iload 5, 2) := dk_21 5 (dk_at dksX0_feed_1 15 rfl rfl)
theorem dX0_feed_39 : decode cX0_feed 39 = .ok (.invokevirtual 77, 3) := dk_182 0 77 (dk_at dksX0_feed_1 17 rfl rfl)
theorem dX0_feed_42 : decode cX0_feed 42 = .ok (.aload_n 0, 1) := dk_42 (dk_at dksX0_feed_1 20 rfl rfl)
theorem dX0_feed_43 : decode cX0_feed 43 = .ok (.getfield 74, 3) := dk_180 0 74 (dk_at dksX0_feed_1 21 rfl rfl)
theorem dX0_feed_46 : decode cX0_feed 46 = .ok (.ireturn, 1) := dk_172 (dk_at dksX0_feed_2 0 rfl rfl)
abbrev cX0_word : ByteArray := prog_1_method_5_code
def yX0_word : MethodName := ⟨RX0, "word", "(I)V"⟩
def dkwX0_word_1 : List UInt8 := [180, 0, 74, 4, 96, 181, 0, 74, 132, 2, 248, 167, 255, 226, 177]
abbrev dktX0_word_1 : List UInt8 := dkwX0_word_1 ++ []
def dkwX0_word_0 : List UInt8 := [16, 24, 61, 28, 155, 0, 32, 42, 180, 0, 9, 42, 180, 0, 74, 27, 28, 122, 145, 84, 42, 89]
abbrev dktX0_word_0 : List UInt8 := dkwX0_word_0 ++ dktX0_word_1
theorem dksX0_word_0 : cX0_word.data.toList.drop 0 = dktX0_word_0 := by decide +kernel
theorem dksX0_word_1 : cX0_word.data.toList.drop 22 = dktX0_word_1 := dk_seg dksX0_word_0 22 rfl rfl
theorem dX0_word_0 : decode cX0_word 0 = .ok (.bipush 24, 2) := dk_16 24 (dk_at dksX0_word_0 0 rfl rfl)
theorem dX0_word_2 : decode cX0_word 2 = .ok (.istore_n 2, 1) := dk_61 (dk_at dksX0_word_0 2 rfl rfl)
theorem dX0_word_3 : decode cX0_word 3 = .ok (.iload_n 2, 1) := dk_28 (dk_at dksX0_word_0 3 rfl rfl)
theorem dX0_word_4 : decode cX0_word 4 = .ok (.ifCond .lt 32, 3) := dk_155 0 32 (dk_at dksX0_word_0 4 rfl rfl)
theorem dX0_word_7 : decode cX0_word 7 = .ok (.aload_n 0, 1) := dk_42 (dk_at dksX0_word_0 7 rfl rfl)
theorem dX0_word_8 : decode cX0_word 8 = .ok (.getfield 9, 3) := dk_180 0 9 (dk_at dksX0_word_0 8 rfl rfl)
theorem dX0_word_11 : decode cX0_word 11 = .ok (.aload_n 0, 1) := dk_42 (dk_at dksX0_word_0 11 rfl rfl)
theorem dX0_word_12 : decode cX0_word 12 = .ok (.getfield 74, 3) := dk_180 0 74 (dk_at dksX0_word_0 12 rfl rfl)
theorem dX0_word_15 : decode cX0_word 15 = .ok (.iload_n 1, 1) := dk_27 (dk_at dksX0_word_0 15 rfl rfl)
theorem dX0_word_16 : decode cX0_word 16 = .ok (.iload_n 2, 1) := dk_28 (dk_at dksX0_word_0 16 rfl rfl)
theorem dX0_word_17 : decode cX0_word 17 = .ok (.ishr, 1) := dk_122 (dk_at dksX0_word_0 17 rfl rfl)
theorem dX0_word_18 : decode cX0_word 18 = .ok (.i2b, 1) := dk_145 (dk_at dksX0_word_0 18 rfl rfl)
theorem dX0_word_19 : decode cX0_word 19 = .ok (.bastore, 1) := dk_84 (dk_at dksX0_word_0 19 rfl rfl)
theorem dX0_word_20 : decode cX0_word 20 = .ok (.aload_n 0, 1) := dk_42 (dk_at dksX0_word_0 20 rfl rfl)
theorem dX0_word_21 : decode cX0_word 21 = .ok (.dup, 1) := dk_89 (dk_at dksX0_word_0 21 rfl rfl)
theorem dX0_word_22 : decode cX0_word 22 = .ok (.getfield 74, 3) := dk_180 0 74 (dk_at dksX0_word_1 0 rfl rfl)
theorem dX0_word_25 : decode cX0_word 25 = .ok (.iconst 1, 1) := dk_4 (dk_at dksX0_word_1 3 rfl rfl)
theorem dX0_word_26 : decode cX0_word 26 = .ok (.iadd, 1) := dk_96 (dk_at dksX0_word_1 4 rfl rfl)
theorem dX0_word_27 : decode cX0_word 27 = .ok (.putfield 74, 3) := dk_181 0 74 (dk_at dksX0_word_1 5 rfl rfl)
theorem dX0_word_30 : decode cX0_word 30 = .ok (.iinc 2 (-8), 3) := dk_132 2 248 (dk_at dksX0_word_1 8 rfl rfl)
theorem dX0_word_33 : decode cX0_word 33 = .ok (.goto (-30), 3) := dk_167 255 226 (dk_at dksX0_word_1 11 rfl rfl)
theorem dX0_word_36 : decode cX0_word 36 = .ok (.return_, 1) := dk_177 (dk_at dksX0_word_1 14 rfl rfl)
abbrev cX0_end : ByteArray := prog_1_method_6_code
def yX0_end : MethodName := ⟨RX0, "end", "(I)Z"⟩
def dkwX0_end_0 : List UInt8 := [27, 3, 42, 180, 0, 74, 184, 0, 81, 154, 0, 5, 3, 172, 42, 27, 181, 0, 74, 4, 172]
abbrev dktX0_end_0 : List UInt8 := dkwX0_end_0 ++ []
theorem dksX0_end_0 : cX0_end.data.toList.drop 0 = dktX0_end_0 := by decide +kernel
theorem dX0_end_0 : decode cX0_end 0 = .ok (.iload_n 1, 1) := dk_27 (dk_at dksX0_end_0 0 rfl rfl)
theorem dX0_end_1 : decode cX0_end 1 = .ok (.iconst 0, 1) := dk_3 (dk_at dksX0_end_0 1 rfl rfl)
theorem dX0_end_2 : decode cX0_end 2 = .ok (.aload_n 0, 1) := dk_42 (dk_at dksX0_end_0 2 rfl rfl)
theorem dX0_end_3 : decode cX0_end 3 = .ok (.getfield 74, 3) := dk_180 0 74 (dk_at dksX0_end_0 3 rfl rfl)
theorem dX0_end_6 : decode cX0_end 6 = .ok (.invokestatic 81, 3) := dk_184 0 81 (dk_at dksX0_end_0 6 rfl rfl)
theorem dX0_end_9 : decode cX0_end 9 = .ok (.ifCond .ne 5, 3) := dk_154 0 5 (dk_at dksX0_end_0 9 rfl rfl)
theorem dX0_end_12 : decode cX0_end 12 = .ok (.iconst 0, 1) := dk_3 (dk_at dksX0_end_0 12 rfl rfl)
theorem dX0_end_13 : decode cX0_end 13 = .ok (.ireturn, 1) := dk_172 (dk_at dksX0_end_0 13 rfl rfl)
theorem dX0_end_14 : decode cX0_end 14 = .ok (.aload_n 0, 1) := dk_42 (dk_at dksX0_end_0 14 rfl rfl)
theorem dX0_end_15 : decode cX0_end 15 = .ok (.iload_n 1, 1) := dk_27 (dk_at dksX0_end_0 15 rfl rfl)
theorem dX0_end_16 : decode cX0_end 16 = .ok (.putfield 74, 3) := dk_181 0 74 (dk_at dksX0_end_0 16 rfl rfl)
theorem dX0_end_19 : decode cX0_end 19 = .ok (.iconst 1, 1) := dk_4 (dk_at dksX0_end_0 19 rfl rfl)
theorem dX0_end_20 : decode cX0_end 20 = .ok (.ireturn, 1) := dk_172 (dk_at dksX0_end_0 20 rfl rfl)
abbrev cX0_isIn : ByteArray := prog_1_method_2_code
def yX0_isIn : MethodName := ⟨RX0, "isIn", "(III)Z"⟩
def dkwX0_isIn_0 : List UInt8 := [26, 27, 161, 0, 12, 26, 28, 163, 0, 7, 4, 167, 0, 4, 3, 172]
abbrev dktX0_isIn_0 : List UInt8 := dkwX0_isIn_0 ++ []
theorem dksX0_isIn_0 : cX0_isIn.data.toList.drop 0 = dktX0_isIn_0 := by decide +kernel
theorem dX0_isIn_0 : decode cX0_isIn 0 = .ok (.iload_n 0, 1) := dk_26 (dk_at dksX0_isIn_0 0 rfl rfl)
theorem dX0_isIn_1 : decode cX0_isIn 1 = .ok (.iload_n 1, 1) := dk_27 (dk_at dksX0_isIn_0 1 rfl rfl)
theorem dX0_isIn_2 : decode cX0_isIn 2 = .ok (.if_icmp .lt 12, 3) := dk_161 0 12 (dk_at dksX0_isIn_0 2 rfl rfl)
theorem dX0_isIn_5 : decode cX0_isIn 5 = .ok (.iload_n 0, 1) := dk_26 (dk_at dksX0_isIn_0 5 rfl rfl)
theorem dX0_isIn_6 : decode cX0_isIn 6 = .ok (.iload_n 2, 1) := dk_28 (dk_at dksX0_isIn_0 6 rfl rfl)
theorem dX0_isIn_7 : decode cX0_isIn 7 = .ok (.if_icmp .gt 7, 3) := dk_163 0 7 (dk_at dksX0_isIn_0 7 rfl rfl)
theorem dX0_isIn_10 : decode cX0_isIn 10 = .ok (.iconst 1, 1) := dk_4 (dk_at dksX0_isIn_0 10 rfl rfl)
theorem dX0_isIn_11 : decode cX0_isIn 11 = .ok (.goto 4, 3) := dk_167 0 4 (dk_at dksX0_isIn_0 11 rfl rfl)
theorem dX0_isIn_14 : decode cX0_isIn 14 = .ok (.iconst 0, 1) := dk_3 (dk_at dksX0_isIn_0 14 rfl rfl)
theorem dX0_isIn_15 : decode cX0_isIn 15 = .ok (.ireturn, 1) := dk_172 (dk_at dksX0_isIn_0 15 rfl rfl)
abbrev cX0_text : ByteArray := prog_1_method_8_code
def yX0_text : MethodName := ⟨RX0, "text", "(I)I"⟩
def dkwX0_text_3 : List UInt8 := [191]
abbrev dktX0_text_3 : List UInt8 := dkwX0_text_3 ++ []
def dkwX0_text_2 : List UInt8 := [180, 0, 141, 181, 0, 13, 2, 62, 42, 3, 181, 0, 74, 29, 172, 58, 4, 42, 3, 181, 0, 74, 25, 4]
abbrev dktX0_text_2 : List UInt8 := dkwX0_text_2 ++ dktX0_text_3
def dkwX0_text_1 : List UInt8 := [167, 0, 4, 2, 61, 42, 3, 181, 0, 74, 28, 172, 77, 42, 44, 180, 0, 138, 181, 0, 129, 42, 44]
abbrev dktX0_text_1 : List UInt8 := dkwX0_text_1 ++ dktX0_text_2
def dkwX0_text_0 : List UInt8 := [42, 3, 181, 0, 129, 42, 2, 181, 0, 13, 27, 3, 6, 184, 0, 81, 153, 0, 11, 42, 27, 182, 0, 132]
abbrev dktX0_text_0 : List UInt8 := dkwX0_text_0 ++ dktX0_text_1
theorem dksX0_text_0 : cX0_text.data.toList.drop 0 = dktX0_text_0 := by decide +kernel
theorem dksX0_text_1 : cX0_text.data.toList.drop 24 = dktX0_text_1 := dk_seg dksX0_text_0 24 rfl rfl
theorem dksX0_text_2 : cX0_text.data.toList.drop 47 = dktX0_text_2 := dk_seg dksX0_text_1 23 rfl rfl
theorem dksX0_text_3 : cX0_text.data.toList.drop 71 = dktX0_text_3 := dk_seg dksX0_text_2 24 rfl rfl
theorem dX0_text_0 : decode cX0_text 0 = .ok (.aload_n 0, 1) := dk_42 (dk_at dksX0_text_0 0 rfl rfl)
theorem dX0_text_1 : decode cX0_text 1 = .ok (.iconst 0, 1) := dk_3 (dk_at dksX0_text_0 1 rfl rfl)
theorem dX0_text_2 : decode cX0_text 2 = .ok (.putfield 129, 3) := dk_181 0 129 (dk_at dksX0_text_0 2 rfl rfl)
theorem dX0_text_5 : decode cX0_text 5 = .ok (.aload_n 0, 1) := dk_42 (dk_at dksX0_text_0 5 rfl rfl)
theorem dX0_text_6 : decode cX0_text 6 = .ok (.iconst (-1), 1) := dk_2 (dk_at dksX0_text_0 6 rfl rfl)
theorem dX0_text_7 : decode cX0_text 7 = .ok (.putfield 13, 3) := dk_181 0 13 (dk_at dksX0_text_0 7 rfl rfl)
theorem dX0_text_10 : decode cX0_text 10 = .ok (.iload_n 1, 1) := dk_27 (dk_at dksX0_text_0 10 rfl rfl)
theorem dX0_text_11 : decode cX0_text 11 = .ok (.iconst 0, 1) := dk_3 (dk_at dksX0_text_0 11 rfl rfl)
theorem dX0_text_12 : decode cX0_text 12 = .ok (.iconst 3, 1) := dk_6 (dk_at dksX0_text_0 12 rfl rfl)
theorem dX0_text_13 : decode cX0_text 13 = .ok (.invokestatic 81, 3) := dk_184 0 81 (dk_at dksX0_text_0 13 rfl rfl)
theorem dX0_text_16 : decode cX0_text 16 = .ok (.ifCond .eq 11, 3) := dk_153 0 11 (dk_at dksX0_text_0 16 rfl rfl)
theorem dX0_text_19 : decode cX0_text 19 = .ok (.aload_n 0, 1) := dk_42 (dk_at dksX0_text_0 19 rfl rfl)
theorem dX0_text_20 : decode cX0_text 20 = .ok (.iload_n 1, 1) := dk_27 (dk_at dksX0_text_0 20 rfl rfl)
theorem dX0_text_21 : decode cX0_text 21 = .ok (.invokevirtual 132, 3) := dk_182 0 132 (dk_at dksX0_text_0 21 rfl rfl)
theorem dX0_text_24 : decode cX0_text 24 = .ok (.goto 4, 3) := dk_167 0 4 (dk_at dksX0_text_1 0 rfl rfl)
theorem dX0_text_27 : decode cX0_text 27 = .ok (.iconst (-1), 1) := dk_2 (dk_at dksX0_text_1 3 rfl rfl)
theorem dX0_text_28 : decode cX0_text 28 = .ok (.istore_n 2, 1) := dk_61 (dk_at dksX0_text_1 4 rfl rfl)
theorem dX0_text_29 : decode cX0_text 29 = .ok (.aload_n 0, 1) := dk_42 (dk_at dksX0_text_1 5 rfl rfl)
theorem dX0_text_30 : decode cX0_text 30 = .ok (.iconst 0, 1) := dk_3 (dk_at dksX0_text_1 6 rfl rfl)
theorem dX0_text_31 : decode cX0_text 31 = .ok (.putfield 74, 3) := dk_181 0 74 (dk_at dksX0_text_1 7 rfl rfl)
theorem dX0_text_34 : decode cX0_text 34 = .ok (.iload_n 2, 1) := dk_28 (dk_at dksX0_text_1 10 rfl rfl)
theorem dX0_text_35 : decode cX0_text 35 = .ok (.ireturn, 1) := dk_172 (dk_at dksX0_text_1 11 rfl rfl)
theorem dX0_text_36 : decode cX0_text 36 = .ok (.astore_n 2, 1) := dk_77 (dk_at dksX0_text_1 12 rfl rfl)
theorem dX0_text_37 : decode cX0_text 37 = .ok (.aload_n 0, 1) := dk_42 (dk_at dksX0_text_1 13 rfl rfl)
theorem dX0_text_38 : decode cX0_text 38 = .ok (.aload_n 2, 1) := dk_44 (dk_at dksX0_text_1 14 rfl rfl)
theorem dX0_text_39 : decode cX0_text 39 = .ok (.getfield 138, 3) := dk_180 0 138 (dk_at dksX0_text_1 15 rfl rfl)
theorem dX0_text_42 : decode cX0_text 42 = .ok (.putfield 129, 3) := dk_181 0 129 (dk_at dksX0_text_1 18 rfl rfl)
theorem dX0_text_45 : decode cX0_text 45 = .ok (.aload_n 0, 1) := dk_42 (dk_at dksX0_text_1 21 rfl rfl)
theorem dX0_text_46 : decode cX0_text 46 = .ok (.aload_n 2, 1) := dk_44 (dk_at dksX0_text_1 22 rfl rfl)
theorem dX0_text_47 : decode cX0_text 47 = .ok (.getfield 141, 3) := dk_180 0 141 (dk_at dksX0_text_2 0 rfl rfl)
theorem dX0_text_50 : decode cX0_text 50 = .ok (.putfield 13, 3) := dk_181 0 13 (dk_at dksX0_text_2 3 rfl rfl)
theorem dX0_text_53 : decode cX0_text 53 = .ok (.iconst (-1), 1) := dk_2 (dk_at dksX0_text_2 6 rfl rfl)
theorem dX0_text_54 : decode cX0_text 54 = .ok (.istore_n 3, 1) := dk_62 (dk_at dksX0_text_2 7 rfl rfl)
theorem dX0_text_55 : decode cX0_text 55 = .ok (.aload_n 0, 1) := dk_42 (dk_at dksX0_text_2 8 rfl rfl)
theorem dX0_text_56 : decode cX0_text 56 = .ok (.iconst 0, 1) := dk_3 (dk_at dksX0_text_2 9 rfl rfl)
theorem dX0_text_57 : decode cX0_text 57 = .ok (.putfield 74, 3) := dk_181 0 74 (dk_at dksX0_text_2 10 rfl rfl)
theorem dX0_text_60 : decode cX0_text 60 = .ok (.iload_n 3, 1) := dk_29 (dk_at dksX0_text_2 13 rfl rfl)
theorem dX0_text_61 : decode cX0_text 61 = .ok (.ireturn, 1) := dk_172 (dk_at dksX0_text_2 14 rfl rfl)
theorem dX0_text_62 : decode cX0_text 62 = .ok (.astore 4, 2) := dk_58 4 (dk_at dksX0_text_2 15 rfl rfl)
theorem dX0_text_64 : decode cX0_text 64 = .ok (.aload_n 0, 1) := dk_42 (dk_at dksX0_text_2 17 rfl rfl)
theorem dX0_text_65 : decode cX0_text 65 = .ok (.iconst 0, 1) := dk_3 (dk_at dksX0_text_2 18 rfl rfl)
theorem dX0_text_66 : decode cX0_text 66 = .ok (.putfield 74, 3) := dk_181 0 74 (dk_at dksX0_text_2 19 rfl rfl)
theorem dX0_text_69 : decode cX0_text 69 = .ok (.aload 4, 2) := dk_25 4 (dk_at dksX0_text_2 22 rfl rfl)
theorem dX0_text_71 : decode cX0_text 71 = .ok (.athrow, 1) := dk_191 (dk_at dksX0_text_3 0 rfl rfl)
abbrev cX0_reads : ByteArray := prog_1_method_7_code
def yX0_reads : MethodName := ⟨RX0, "reads", "(I)I"⟩
def dkwX0_reads_6 : List UInt8 := [180, 0, 123, 181, 0, 126, 44, 180, 0, 123, 172]
abbrev dktX0_reads_6 : List UInt8 := dkwX0_reads_6 ++ []
def dkwX0_reads_5 : List UInt8 := [180, 0, 113, 182, 0, 97, 172, 42, 180, 0, 20, 44, 182, 0, 116, 181, 0, 120, 42, 180, 0, 20, 44]
abbrev dktX0_reads_5 : List UInt8 := dkwX0_reads_5 ++ dktX0_reads_6
def dkwX0_reads_4 : List UInt8 := [182, 0, 97, 172, 42, 180, 0, 20, 44, 182, 0, 103, 181, 0, 113, 42, 182, 0, 109, 87, 42, 180, 0, 20]
abbrev dktX0_reads_4 : List UInt8 := dkwX0_reads_4 ++ dktX0_reads_5
def dkwX0_reads_3 : List UInt8 := [180, 0, 20, 44, 182, 0, 103, 181, 0, 106, 42, 182, 0, 109, 87, 42, 180, 0, 20, 180, 0, 106]
abbrev dktX0_reads_3 : List UInt8 := dkwX0_reads_3 ++ dktX0_reads_4
def dkwX0_reads_2 : List UInt8 := [42, 180, 0, 20, 44, 182, 0, 90, 181, 0, 94, 42, 180, 0, 20, 180, 0, 94, 182, 0, 97, 172, 42]
abbrev dktX0_reads_2 : List UInt8 := dkwX0_reads_2 ++ dktX0_reads_3
def dkwX0_reads_1 : List UInt8 := [170, 0, 0, 0, 101, 0, 0, 0, 0, 0, 0, 0, 2, 0, 0, 0, 25, 0, 0, 0, 47, 0, 0, 0, 74]
abbrev dktX0_reads_1 : List UInt8 := dkwX0_reads_1 ++ dktX0_reads_2
def dkwX0_reads_0 : List UInt8 := [187, 0, 85, 89, 42, 27, 183, 0, 87, 77, 27]
abbrev dktX0_reads_0 : List UInt8 := dkwX0_reads_0 ++ dktX0_reads_1
theorem dksX0_reads_0 : cX0_reads.data.toList.drop 0 = dktX0_reads_0 := by decide +kernel
theorem dksX0_reads_1 : cX0_reads.data.toList.drop 11 = dktX0_reads_1 := dk_seg dksX0_reads_0 11 rfl rfl
theorem dksX0_reads_2 : cX0_reads.data.toList.drop 36 = dktX0_reads_2 := dk_seg dksX0_reads_1 25 rfl rfl
theorem dksX0_reads_3 : cX0_reads.data.toList.drop 59 = dktX0_reads_3 := dk_seg dksX0_reads_2 23 rfl rfl
theorem dksX0_reads_4 : cX0_reads.data.toList.drop 81 = dktX0_reads_4 := dk_seg dksX0_reads_3 22 rfl rfl
theorem dksX0_reads_5 : cX0_reads.data.toList.drop 105 = dktX0_reads_5 := dk_seg dksX0_reads_4 24 rfl rfl
theorem dksX0_reads_6 : cX0_reads.data.toList.drop 128 = dktX0_reads_6 := dk_seg dksX0_reads_5 23 rfl rfl
theorem dX0_reads_0 : decode cX0_reads 0 = .ok (.new 85, 3) := dk_187 0 85 (dk_at dksX0_reads_0 0 rfl rfl)
theorem dX0_reads_3 : decode cX0_reads 3 = .ok (.dup, 1) := dk_89 (dk_at dksX0_reads_0 3 rfl rfl)
theorem dX0_reads_4 : decode cX0_reads 4 = .ok (.aload_n 0, 1) := dk_42 (dk_at dksX0_reads_0 4 rfl rfl)
theorem dX0_reads_5 : decode cX0_reads 5 = .ok (.iload_n 1, 1) := dk_27 (dk_at dksX0_reads_0 5 rfl rfl)
theorem dX0_reads_6 : decode cX0_reads 6 = .ok (.invokespecial 87, 3) := dk_183 0 87 (dk_at dksX0_reads_0 6 rfl rfl)
theorem dX0_reads_9 : decode cX0_reads 9 = .ok (.astore_n 2, 1) := dk_77 (dk_at dksX0_reads_0 9 rfl rfl)
theorem dX0_reads_10 : decode cX0_reads 10 = .ok (.iload_n 1, 1) := dk_27 (dk_at dksX0_reads_0 10 rfl rfl)
theorem dX0_reads_11 : decode cX0_reads 11 = .ok (.tableswitch 101 0 2 #[25, 47, 74], 25) := by decide +kernel
theorem dX0_reads_36 : decode cX0_reads 36 = .ok (.aload_n 0, 1) := dk_42 (dk_at dksX0_reads_2 0 rfl rfl)
theorem dX0_reads_37 : decode cX0_reads 37 = .ok (.getfield 20, 3) := dk_180 0 20 (dk_at dksX0_reads_2 1 rfl rfl)
theorem dX0_reads_40 : decode cX0_reads 40 = .ok (.aload_n 2, 1) := dk_44 (dk_at dksX0_reads_2 4 rfl rfl)
theorem dX0_reads_41 : decode cX0_reads 41 = .ok (.invokevirtual 90, 3) := dk_182 0 90 (dk_at dksX0_reads_2 5 rfl rfl)
theorem dX0_reads_44 : decode cX0_reads 44 = .ok (.putfield 94, 3) := dk_181 0 94 (dk_at dksX0_reads_2 8 rfl rfl)
theorem dX0_reads_47 : decode cX0_reads 47 = .ok (.aload_n 0, 1) := dk_42 (dk_at dksX0_reads_2 11 rfl rfl)
theorem dX0_reads_48 : decode cX0_reads 48 = .ok (.getfield 20, 3) := dk_180 0 20 (dk_at dksX0_reads_2 12 rfl rfl)
theorem dX0_reads_51 : decode cX0_reads 51 = .ok (.getfield 94, 3) := dk_180 0 94 (dk_at dksX0_reads_2 15 rfl rfl)
theorem dX0_reads_54 : decode cX0_reads 54 = .ok (.invokevirtual 97, 3) := dk_182 0 97 (dk_at dksX0_reads_2 18 rfl rfl)
theorem dX0_reads_57 : decode cX0_reads 57 = .ok (.ireturn, 1) := dk_172 (dk_at dksX0_reads_2 21 rfl rfl)
theorem dX0_reads_58 : decode cX0_reads 58 = .ok (.aload_n 0, 1) := dk_42 (dk_at dksX0_reads_2 22 rfl rfl)
theorem dX0_reads_59 : decode cX0_reads 59 = .ok (.getfield 20, 3) := dk_180 0 20 (dk_at dksX0_reads_3 0 rfl rfl)
theorem dX0_reads_62 : decode cX0_reads 62 = .ok (.aload_n 2, 1) := dk_44 (dk_at dksX0_reads_3 3 rfl rfl)
theorem dX0_reads_63 : decode cX0_reads 63 = .ok (.invokevirtual 103, 3) := dk_182 0 103 (dk_at dksX0_reads_3 4 rfl rfl)
theorem dX0_reads_66 : decode cX0_reads 66 = .ok (.putfield 106, 3) := dk_181 0 106 (dk_at dksX0_reads_3 7 rfl rfl)
theorem dX0_reads_69 : decode cX0_reads 69 = .ok (.aload_n 0, 1) := dk_42 (dk_at dksX0_reads_3 10 rfl rfl)
theorem dX0_reads_70 : decode cX0_reads 70 = .ok (.invokevirtual 109, 3) := dk_182 0 109 (dk_at dksX0_reads_3 11 rfl rfl)
theorem dX0_reads_73 : decode cX0_reads 73 = .ok (.pop, 1) := dk_87 (dk_at dksX0_reads_3 14 rfl rfl)
theorem dX0_reads_74 : decode cX0_reads 74 = .ok (.aload_n 0, 1) := dk_42 (dk_at dksX0_reads_3 15 rfl rfl)
theorem dX0_reads_75 : decode cX0_reads 75 = .ok (.getfield 20, 3) := dk_180 0 20 (dk_at dksX0_reads_3 16 rfl rfl)
theorem dX0_reads_78 : decode cX0_reads 78 = .ok (.getfield 106, 3) := dk_180 0 106 (dk_at dksX0_reads_3 19 rfl rfl)
theorem dX0_reads_81 : decode cX0_reads 81 = .ok (.invokevirtual 97, 3) := dk_182 0 97 (dk_at dksX0_reads_4 0 rfl rfl)
theorem dX0_reads_84 : decode cX0_reads 84 = .ok (.ireturn, 1) := dk_172 (dk_at dksX0_reads_4 3 rfl rfl)
theorem dX0_reads_85 : decode cX0_reads 85 = .ok (.aload_n 0, 1) := dk_42 (dk_at dksX0_reads_4 4 rfl rfl)
theorem dX0_reads_86 : decode cX0_reads 86 = .ok (.getfield 20, 3) := dk_180 0 20 (dk_at dksX0_reads_4 5 rfl rfl)
theorem dX0_reads_89 : decode cX0_reads 89 = .ok (.aload_n 2, 1) := dk_44 (dk_at dksX0_reads_4 8 rfl rfl)
theorem dX0_reads_90 : decode cX0_reads 90 = .ok (.invokevirtual 103, 3) := dk_182 0 103 (dk_at dksX0_reads_4 9 rfl rfl)
theorem dX0_reads_93 : decode cX0_reads 93 = .ok (.putfield 113, 3) := dk_181 0 113 (dk_at dksX0_reads_4 12 rfl rfl)
theorem dX0_reads_96 : decode cX0_reads 96 = .ok (.aload_n 0, 1) := dk_42 (dk_at dksX0_reads_4 15 rfl rfl)
theorem dX0_reads_97 : decode cX0_reads 97 = .ok (.invokevirtual 109, 3) := dk_182 0 109 (dk_at dksX0_reads_4 16 rfl rfl)
theorem dX0_reads_100 : decode cX0_reads 100 = .ok (.pop, 1) := dk_87 (dk_at dksX0_reads_4 19 rfl rfl)
theorem dX0_reads_101 : decode cX0_reads 101 = .ok (.aload_n 0, 1) := dk_42 (dk_at dksX0_reads_4 20 rfl rfl)
theorem dX0_reads_102 : decode cX0_reads 102 = .ok (.getfield 20, 3) := dk_180 0 20 (dk_at dksX0_reads_4 21 rfl rfl)
theorem dX0_reads_105 : decode cX0_reads 105 = .ok (.getfield 113, 3) := dk_180 0 113 (dk_at dksX0_reads_5 0 rfl rfl)
theorem dX0_reads_108 : decode cX0_reads 108 = .ok (.invokevirtual 97, 3) := dk_182 0 97 (dk_at dksX0_reads_5 3 rfl rfl)
theorem dX0_reads_111 : decode cX0_reads 111 = .ok (.ireturn, 1) := dk_172 (dk_at dksX0_reads_5 6 rfl rfl)
theorem dX0_reads_112 : decode cX0_reads 112 = .ok (.aload_n 0, 1) := dk_42 (dk_at dksX0_reads_5 7 rfl rfl)
theorem dX0_reads_113 : decode cX0_reads 113 = .ok (.getfield 20, 3) := dk_180 0 20 (dk_at dksX0_reads_5 8 rfl rfl)
theorem dX0_reads_116 : decode cX0_reads 116 = .ok (.aload_n 2, 1) := dk_44 (dk_at dksX0_reads_5 11 rfl rfl)
theorem dX0_reads_117 : decode cX0_reads 117 = .ok (.invokevirtual 116, 3) := dk_182 0 116 (dk_at dksX0_reads_5 12 rfl rfl)
theorem dX0_reads_120 : decode cX0_reads 120 = .ok (.putfield 120, 3) := dk_181 0 120 (dk_at dksX0_reads_5 15 rfl rfl)
theorem dX0_reads_123 : decode cX0_reads 123 = .ok (.aload_n 0, 1) := dk_42 (dk_at dksX0_reads_5 18 rfl rfl)
theorem dX0_reads_124 : decode cX0_reads 124 = .ok (.getfield 20, 3) := dk_180 0 20 (dk_at dksX0_reads_5 19 rfl rfl)
theorem dX0_reads_127 : decode cX0_reads 127 = .ok (.aload_n 2, 1) := dk_44 (dk_at dksX0_reads_5 22 rfl rfl)
theorem dX0_reads_128 : decode cX0_reads 128 = .ok (.getfield 123, 3) := dk_180 0 123 (dk_at dksX0_reads_6 0 rfl rfl)
theorem dX0_reads_131 : decode cX0_reads 131 = .ok (.putfield 126, 3) := dk_181 0 126 (dk_at dksX0_reads_6 3 rfl rfl)
theorem dX0_reads_134 : decode cX0_reads 134 = .ok (.aload_n 2, 1) := dk_44 (dk_at dksX0_reads_6 6 rfl rfl)
theorem dX0_reads_135 : decode cX0_reads 135 = .ok (.getfield 123, 3) := dk_180 0 123 (dk_at dksX0_reads_6 7 rfl rfl)
theorem dX0_reads_138 : decode cX0_reads 138 = .ok (.ireturn, 1) := dk_172 (dk_at dksX0_reads_6 10 rfl rfl)
abbrev cX0_forgets : ByteArray := prog_1_method_10_code
def yX0_forgets : MethodName := ⟨RX0, "forgets", "()Z"⟩
def dkwX0_forgets_0 : List UInt8 := [42, 3, 181, 0, 144, 4, 172]
abbrev dktX0_forgets_0 : List UInt8 := dkwX0_forgets_0 ++ []
theorem dksX0_forgets_0 : cX0_forgets.data.toList.drop 0 = dktX0_forgets_0 := by decide +kernel
theorem dX0_forgets_0 : decode cX0_forgets 0 = .ok (.aload_n 0, 1) := dk_42 (dk_at dksX0_forgets_0 0 rfl rfl)
theorem dX0_forgets_1 : decode cX0_forgets 1 = .ok (.iconst 0, 1) := dk_3 (dk_at dksX0_forgets_0 1 rfl rfl)
theorem dX0_forgets_2 : decode cX0_forgets 2 = .ok (.putfield 144, 3) := dk_181 0 144 (dk_at dksX0_forgets_0 2 rfl rfl)
theorem dX0_forgets_5 : decode cX0_forgets 5 = .ok (.iconst 1, 1) := dk_4 (dk_at dksX0_forgets_0 5 rfl rfl)
theorem dX0_forgets_6 : decode cX0_forgets 6 = .ok (.ireturn, 1) := dk_172 (dk_at dksX0_forgets_0 6 rfl rfl)
abbrev cX0_fault : ByteArray := prog_1_method_9_code
def yX0_fault : MethodName := ⟨RX0, "fault", "(I)I"⟩
def dkwX0_fault_1 : List UInt8 := [172]
abbrev dktX0_fault_1 : List UInt8 := dkwX0_fault_1 ++ []
def dkwX0_fault_0 : List UInt8 := [27, 154, 0, 10, 42, 180, 0, 129, 167, 0, 16, 27, 4, 160, 0, 10, 42, 180, 0, 13, 167, 0, 4, 2]
abbrev dktX0_fault_0 : List UInt8 := dkwX0_fault_0 ++ dktX0_fault_1
theorem dksX0_fault_0 : cX0_fault.data.toList.drop 0 = dktX0_fault_0 := by decide +kernel
theorem dksX0_fault_1 : cX0_fault.data.toList.drop 24 = dktX0_fault_1 := dk_seg dksX0_fault_0 24 rfl rfl
theorem dX0_fault_0 : decode cX0_fault 0 = .ok (.iload_n 1, 1) := dk_27 (dk_at dksX0_fault_0 0 rfl rfl)
theorem dX0_fault_1 : decode cX0_fault 1 = .ok (.ifCond .ne 10, 3) := dk_154 0 10 (dk_at dksX0_fault_0 1 rfl rfl)
theorem dX0_fault_4 : decode cX0_fault 4 = .ok (.aload_n 0, 1) := dk_42 (dk_at dksX0_fault_0 4 rfl rfl)
theorem dX0_fault_5 : decode cX0_fault 5 = .ok (.getfield 129, 3) := dk_180 0 129 (dk_at dksX0_fault_0 5 rfl rfl)
theorem dX0_fault_8 : decode cX0_fault 8 = .ok (.goto 16, 3) := dk_167 0 16 (dk_at dksX0_fault_0 8 rfl rfl)
theorem dX0_fault_11 : decode cX0_fault 11 = .ok (.iload_n 1, 1) := dk_27 (dk_at dksX0_fault_0 11 rfl rfl)
theorem dX0_fault_12 : decode cX0_fault 12 = .ok (.iconst 1, 1) := dk_4 (dk_at dksX0_fault_0 12 rfl rfl)
theorem dX0_fault_13 : decode cX0_fault 13 = .ok (.if_icmp .ne 10, 3) := dk_160 0 10 (dk_at dksX0_fault_0 13 rfl rfl)
theorem dX0_fault_16 : decode cX0_fault 16 = .ok (.aload_n 0, 1) := dk_42 (dk_at dksX0_fault_0 16 rfl rfl)
theorem dX0_fault_17 : decode cX0_fault 17 = .ok (.getfield 13, 3) := dk_180 0 13 (dk_at dksX0_fault_0 17 rfl rfl)
theorem dX0_fault_20 : decode cX0_fault 20 = .ok (.goto 4, 3) := dk_167 0 4 (dk_at dksX0_fault_0 20 rfl rfl)
theorem dX0_fault_23 : decode cX0_fault 23 = .ok (.iconst (-1), 1) := dk_2 (dk_at dksX0_fault_0 23 rfl rfl)
theorem dX0_fault_24 : decode cX0_fault 24 = .ok (.ireturn, 1) := dk_172 (dk_at dksX0_fault_1 0 rfl rfl)
abbrev cX0_undo : ByteArray := prog_1_method_12_code
def yX0_undo : MethodName := ⟨RX0, "undo", "()Z"⟩
def dkwX0_undo_1 : List UInt8 := [180, 0, 30, 42, 180, 0, 144, 50, 182, 0, 147, 4, 172]
abbrev dktX0_undo_1 : List UInt8 := dkwX0_undo_1 ++ []
def dkwX0_undo_0 : List UInt8 := [42, 180, 0, 144, 154, 0, 5, 3, 172, 42, 89, 180, 0, 144, 4, 100, 181, 0, 144, 42, 180, 0, 20, 42]
abbrev dktX0_undo_0 : List UInt8 := dkwX0_undo_0 ++ dktX0_undo_1
theorem dksX0_undo_0 : cX0_undo.data.toList.drop 0 = dktX0_undo_0 := by decide +kernel
theorem dksX0_undo_1 : cX0_undo.data.toList.drop 24 = dktX0_undo_1 := dk_seg dksX0_undo_0 24 rfl rfl
theorem dX0_undo_0 : decode cX0_undo 0 = .ok (.aload_n 0, 1) := dk_42 (dk_at dksX0_undo_0 0 rfl rfl)
theorem dX0_undo_1 : decode cX0_undo 1 = .ok (.getfield 144, 3) := dk_180 0 144 (dk_at dksX0_undo_0 1 rfl rfl)
theorem dX0_undo_4 : decode cX0_undo 4 = .ok (.ifCond .ne 5, 3) := dk_154 0 5 (dk_at dksX0_undo_0 4 rfl rfl)
theorem dX0_undo_7 : decode cX0_undo 7 = .ok (.iconst 0, 1) := dk_3 (dk_at dksX0_undo_0 7 rfl rfl)
theorem dX0_undo_8 : decode cX0_undo 8 = .ok (.ireturn, 1) := dk_172 (dk_at dksX0_undo_0 8 rfl rfl)
theorem dX0_undo_9 : decode cX0_undo 9 = .ok (.aload_n 0, 1) := dk_42 (dk_at dksX0_undo_0 9 rfl rfl)
theorem dX0_undo_10 : decode cX0_undo 10 = .ok (.dup, 1) := dk_89 (dk_at dksX0_undo_0 10 rfl rfl)
theorem dX0_undo_11 : decode cX0_undo 11 = .ok (.getfield 144, 3) := dk_180 0 144 (dk_at dksX0_undo_0 11 rfl rfl)
theorem dX0_undo_14 : decode cX0_undo 14 = .ok (.iconst 1, 1) := dk_4 (dk_at dksX0_undo_0 14 rfl rfl)
theorem dX0_undo_15 : decode cX0_undo 15 = .ok (.isub, 1) := dk_100 (dk_at dksX0_undo_0 15 rfl rfl)
theorem dX0_undo_16 : decode cX0_undo 16 = .ok (.putfield 144, 3) := dk_181 0 144 (dk_at dksX0_undo_0 16 rfl rfl)
theorem dX0_undo_19 : decode cX0_undo 19 = .ok (.aload_n 0, 1) := dk_42 (dk_at dksX0_undo_0 19 rfl rfl)
theorem dX0_undo_20 : decode cX0_undo 20 = .ok (.getfield 20, 3) := dk_180 0 20 (dk_at dksX0_undo_0 20 rfl rfl)
theorem dX0_undo_23 : decode cX0_undo 23 = .ok (.aload_n 0, 1) := dk_42 (dk_at dksX0_undo_0 23 rfl rfl)
theorem dX0_undo_24 : decode cX0_undo 24 = .ok (.getfield 30, 3) := dk_180 0 30 (dk_at dksX0_undo_1 0 rfl rfl)
theorem dX0_undo_27 : decode cX0_undo 27 = .ok (.aload_n 0, 1) := dk_42 (dk_at dksX0_undo_1 3 rfl rfl)
theorem dX0_undo_28 : decode cX0_undo 28 = .ok (.getfield 144, 3) := dk_180 0 144 (dk_at dksX0_undo_1 4 rfl rfl)
theorem dX0_undo_31 : decode cX0_undo 31 = .ok (.aaload, 1) := dk_50 (dk_at dksX0_undo_1 7 rfl rfl)
theorem dX0_undo_32 : decode cX0_undo 32 = .ok (.invokevirtual 147, 3) := dk_182 0 147 (dk_at dksX0_undo_1 8 rfl rfl)
theorem dX0_undo_35 : decode cX0_undo 35 = .ok (.iconst 1, 1) := dk_4 (dk_at dksX0_undo_1 11 rfl rfl)
theorem dX0_undo_36 : decode cX0_undo 36 = .ok (.ireturn, 1) := dk_172 (dk_at dksX0_undo_1 12 rfl rfl)
abbrev cX0_state : ByteArray := prog_1_method_15_code
def yX0_state : MethodName := ⟨RX0, "state", "(I)I"⟩
def dkwX0_state_0 : List UInt8 := [42, 180, 0, 20, 180, 0, 158, 61, 42, 180, 0, 20, 27, 181, 0, 158, 42, 182, 0, 109, 87, 28, 172]
abbrev dktX0_state_0 : List UInt8 := dkwX0_state_0 ++ []
theorem dksX0_state_0 : cX0_state.data.toList.drop 0 = dktX0_state_0 := by decide +kernel
theorem dX0_state_0 : decode cX0_state 0 = .ok (.aload_n 0, 1) := dk_42 (dk_at dksX0_state_0 0 rfl rfl)
theorem dX0_state_1 : decode cX0_state 1 = .ok (.getfield 20, 3) := dk_180 0 20 (dk_at dksX0_state_0 1 rfl rfl)
theorem dX0_state_4 : decode cX0_state 4 = .ok (.getfield 158, 3) := dk_180 0 158 (dk_at dksX0_state_0 4 rfl rfl)
theorem dX0_state_7 : decode cX0_state 7 = .ok (.istore_n 2, 1) := dk_61 (dk_at dksX0_state_0 7 rfl rfl)
theorem dX0_state_8 : decode cX0_state 8 = .ok (.aload_n 0, 1) := dk_42 (dk_at dksX0_state_0 8 rfl rfl)
theorem dX0_state_9 : decode cX0_state 9 = .ok (.getfield 20, 3) := dk_180 0 20 (dk_at dksX0_state_0 9 rfl rfl)
theorem dX0_state_12 : decode cX0_state 12 = .ok (.iload_n 1, 1) := dk_27 (dk_at dksX0_state_0 12 rfl rfl)
theorem dX0_state_13 : decode cX0_state 13 = .ok (.putfield 158, 3) := dk_181 0 158 (dk_at dksX0_state_0 13 rfl rfl)
theorem dX0_state_16 : decode cX0_state 16 = .ok (.aload_n 0, 1) := dk_42 (dk_at dksX0_state_0 16 rfl rfl)
theorem dX0_state_17 : decode cX0_state 17 = .ok (.invokevirtual 109, 3) := dk_182 0 109 (dk_at dksX0_state_0 17 rfl rfl)
theorem dX0_state_20 : decode cX0_state 20 = .ok (.pop, 1) := dk_87 (dk_at dksX0_state_0 20 rfl rfl)
theorem dX0_state_21 : decode cX0_state 21 = .ok (.iload_n 2, 1) := dk_28 (dk_at dksX0_state_0 21 rfl rfl)
theorem dX0_state_22 : decode cX0_state 22 = .ok (.ireturn, 1) := dk_172 (dk_at dksX0_state_0 22 rfl rfl)
abbrev cX0_house : ByteArray := prog_1_method_16_code
def yX0_house : MethodName := ⟨RX0, "house", "(III)I"⟩
def dkwX0_house_3 : List UInt8 := [96, 181, 0, 151, 42, 182, 0, 109, 87, 42, 180, 0, 20, 180, 0, 151, 4, 100, 172]
abbrev dktX0_house_3 : List UInt8 := dkwX0_house_3 ++ []
def dkwX0_house_2 : List UInt8 := [180, 0, 20, 180, 0, 151, 182, 0, 161, 27, 28, 29, 182, 0, 165, 42, 180, 0, 20, 89, 180, 0, 151, 4]
abbrev dktX0_house_2 : List UInt8 := dkwX0_house_2 ++ dktX0_house_3
def dkwX0_house_1 : List UInt8 := [184, 0, 81, 153, 0, 15, 42, 180, 0, 20, 180, 0, 151, 16, 12, 160, 0, 5, 2, 172, 42, 42]
abbrev dktX0_house_1 : List UInt8 := dkwX0_house_1 ++ dktX0_house_2
def dkwX0_house_0 : List UInt8 := [27, 3, 16, 99, 184, 0, 81, 153, 0, 35, 28, 3, 16, 9, 184, 0, 81, 153, 0, 25, 29, 3, 16, 9]
abbrev dktX0_house_0 : List UInt8 := dkwX0_house_0 ++ dktX0_house_1
theorem dksX0_house_0 : cX0_house.data.toList.drop 0 = dktX0_house_0 := by decide +kernel
theorem dksX0_house_1 : cX0_house.data.toList.drop 24 = dktX0_house_1 := dk_seg dksX0_house_0 24 rfl rfl
theorem dksX0_house_2 : cX0_house.data.toList.drop 46 = dktX0_house_2 := dk_seg dksX0_house_1 22 rfl rfl
theorem dksX0_house_3 : cX0_house.data.toList.drop 70 = dktX0_house_3 := dk_seg dksX0_house_2 24 rfl rfl
theorem dX0_house_0 : decode cX0_house 0 = .ok (.iload_n 1, 1) := dk_27 (dk_at dksX0_house_0 0 rfl rfl)
theorem dX0_house_1 : decode cX0_house 1 = .ok (.iconst 0, 1) := dk_3 (dk_at dksX0_house_0 1 rfl rfl)
theorem dX0_house_2 : decode cX0_house 2 = .ok (.bipush 99, 2) := dk_16 99 (dk_at dksX0_house_0 2 rfl rfl)
theorem dX0_house_4 : decode cX0_house 4 = .ok (.invokestatic 81, 3) := dk_184 0 81 (dk_at dksX0_house_0 4 rfl rfl)
theorem dX0_house_7 : decode cX0_house 7 = .ok (.ifCond .eq 35, 3) := dk_153 0 35 (dk_at dksX0_house_0 7 rfl rfl)
theorem dX0_house_10 : decode cX0_house 10 = .ok (.iload_n 2, 1) := dk_28 (dk_at dksX0_house_0 10 rfl rfl)
theorem dX0_house_11 : decode cX0_house 11 = .ok (.iconst 0, 1) := dk_3 (dk_at dksX0_house_0 11 rfl rfl)
theorem dX0_house_12 : decode cX0_house 12 = .ok (.bipush 9, 2) := dk_16 9 (dk_at dksX0_house_0 12 rfl rfl)
theorem dX0_house_14 : decode cX0_house 14 = .ok (.invokestatic 81, 3) := dk_184 0 81 (dk_at dksX0_house_0 14 rfl rfl)
theorem dX0_house_17 : decode cX0_house 17 = .ok (.ifCond .eq 25, 3) := dk_153 0 25 (dk_at dksX0_house_0 17 rfl rfl)
theorem dX0_house_20 : decode cX0_house 20 = .ok (.iload_n 3, 1) := dk_29 (dk_at dksX0_house_0 20 rfl rfl)
theorem dX0_house_21 : decode cX0_house 21 = .ok (.iconst 0, 1) := dk_3 (dk_at dksX0_house_0 21 rfl rfl)
theorem dX0_house_22 : decode cX0_house 22 = .ok (.bipush 9, 2) := dk_16 9 (dk_at dksX0_house_0 22 rfl rfl)
theorem dX0_house_24 : decode cX0_house 24 = .ok (.invokestatic 81, 3) := dk_184 0 81 (dk_at dksX0_house_1 0 rfl rfl)
theorem dX0_house_27 : decode cX0_house 27 = .ok (.ifCond .eq 15, 3) := dk_153 0 15 (dk_at dksX0_house_1 3 rfl rfl)
theorem dX0_house_30 : decode cX0_house 30 = .ok (.aload_n 0, 1) := dk_42 (dk_at dksX0_house_1 6 rfl rfl)
theorem dX0_house_31 : decode cX0_house 31 = .ok (.getfield 20, 3) := dk_180 0 20 (dk_at dksX0_house_1 7 rfl rfl)
theorem dX0_house_34 : decode cX0_house 34 = .ok (.getfield 151, 3) := dk_180 0 151 (dk_at dksX0_house_1 10 rfl rfl)
theorem dX0_house_37 : decode cX0_house 37 = .ok (.bipush 12, 2) := dk_16 12 (dk_at dksX0_house_1 13 rfl rfl)
theorem dX0_house_39 : decode cX0_house 39 = .ok (.if_icmp .ne 5, 3) := dk_160 0 5 (dk_at dksX0_house_1 15 rfl rfl)
theorem dX0_house_42 : decode cX0_house 42 = .ok (.iconst (-1), 1) := dk_2 (dk_at dksX0_house_1 18 rfl rfl)
theorem dX0_house_43 : decode cX0_house 43 = .ok (.ireturn, 1) := dk_172 (dk_at dksX0_house_1 19 rfl rfl)
theorem dX0_house_44 : decode cX0_house 44 = .ok (.aload_n 0, 1) := dk_42 (dk_at dksX0_house_1 20 rfl rfl)
theorem dX0_house_45 : decode cX0_house 45 = .ok (.aload_n 0, 1) := dk_42 (dk_at dksX0_house_1 21 rfl rfl)
theorem dX0_house_46 : decode cX0_house 46 = .ok (.getfield 20, 3) := dk_180 0 20 (dk_at dksX0_house_2 0 rfl rfl)
theorem dX0_house_49 : decode cX0_house 49 = .ok (.getfield 151, 3) := dk_180 0 151 (dk_at dksX0_house_2 3 rfl rfl)
theorem dX0_house_52 : decode cX0_house 52 = .ok (.invokevirtual 161, 3) := dk_182 0 161 (dk_at dksX0_house_2 6 rfl rfl)
theorem dX0_house_55 : decode cX0_house 55 = .ok (.iload_n 1, 1) := dk_27 (dk_at dksX0_house_2 9 rfl rfl)
theorem dX0_house_56 : decode cX0_house 56 = .ok (.iload_n 2, 1) := dk_28 (dk_at dksX0_house_2 10 rfl rfl)
theorem dX0_house_57 : decode cX0_house 57 = .ok (.iload_n 3, 1) := dk_29 (dk_at dksX0_house_2 11 rfl rfl)
theorem dX0_house_58 : decode cX0_house 58 = .ok (.invokevirtual 165, 3) := dk_182 0 165 (dk_at dksX0_house_2 12 rfl rfl)
theorem dX0_house_61 : decode cX0_house 61 = .ok (.aload_n 0, 1) := dk_42 (dk_at dksX0_house_2 15 rfl rfl)
theorem dX0_house_62 : decode cX0_house 62 = .ok (.getfield 20, 3) := dk_180 0 20 (dk_at dksX0_house_2 16 rfl rfl)
theorem dX0_house_65 : decode cX0_house 65 = .ok (.dup, 1) := dk_89 (dk_at dksX0_house_2 19 rfl rfl)
theorem dX0_house_66 : decode cX0_house 66 = .ok (.getfield 151, 3) := dk_180 0 151 (dk_at dksX0_house_2 20 rfl rfl)
theorem dX0_house_69 : decode cX0_house 69 = .ok (.iconst 1, 1) := dk_4 (dk_at dksX0_house_2 23 rfl rfl)
theorem dX0_house_70 : decode cX0_house 70 = .ok (.iadd, 1) := dk_96 (dk_at dksX0_house_3 0 rfl rfl)
theorem dX0_house_71 : decode cX0_house 71 = .ok (.putfield 151, 3) := dk_181 0 151 (dk_at dksX0_house_3 1 rfl rfl)
theorem dX0_house_74 : decode cX0_house 74 = .ok (.aload_n 0, 1) := dk_42 (dk_at dksX0_house_3 4 rfl rfl)
theorem dX0_house_75 : decode cX0_house 75 = .ok (.invokevirtual 109, 3) := dk_182 0 109 (dk_at dksX0_house_3 5 rfl rfl)
theorem dX0_house_78 : decode cX0_house 78 = .ok (.pop, 1) := dk_87 (dk_at dksX0_house_3 8 rfl rfl)
theorem dX0_house_79 : decode cX0_house 79 = .ok (.aload_n 0, 1) := dk_42 (dk_at dksX0_house_3 9 rfl rfl)
theorem dX0_house_80 : decode cX0_house 80 = .ok (.getfield 20, 3) := dk_180 0 20 (dk_at dksX0_house_3 10 rfl rfl)
theorem dX0_house_83 : decode cX0_house 83 = .ok (.getfield 151, 3) := dk_180 0 151 (dk_at dksX0_house_3 13 rfl rfl)
theorem dX0_house_86 : decode cX0_house 86 = .ok (.iconst 1, 1) := dk_4 (dk_at dksX0_house_3 16 rfl rfl)
theorem dX0_house_87 : decode cX0_house 87 = .ok (.isub, 1) := dk_100 (dk_at dksX0_house_3 17 rfl rfl)
theorem dX0_house_88 : decode cX0_house 88 = .ok (.ireturn, 1) := dk_172 (dk_at dksX0_house_3 18 rfl rfl)
abbrev cX0_at : ByteArray := prog_1_method_14_code
def yX0_at : MethodName := ⟨RX0, "at", "(I)LGingerRents$House;"⟩
def dkwX0_at_0 : List UInt8 := [42, 180, 0, 20, 180, 0, 154, 27, 50, 176]
abbrev dktX0_at_0 : List UInt8 := dkwX0_at_0 ++ []
theorem dksX0_at_0 : cX0_at.data.toList.drop 0 = dktX0_at_0 := by decide +kernel
theorem dX0_at_0 : decode cX0_at 0 = .ok (.aload_n 0, 1) := dk_42 (dk_at dksX0_at_0 0 rfl rfl)
theorem dX0_at_1 : decode cX0_at 1 = .ok (.getfield 20, 3) := dk_180 0 20 (dk_at dksX0_at_0 1 rfl rfl)
theorem dX0_at_4 : decode cX0_at 4 = .ok (.getfield 154, 3) := dk_180 0 154 (dk_at dksX0_at_0 4 rfl rfl)
theorem dX0_at_7 : decode cX0_at 7 = .ok (.iload_n 1, 1) := dk_27 (dk_at dksX0_at_0 7 rfl rfl)
theorem dX0_at_8 : decode cX0_at 8 = .ok (.aaload, 1) := dk_50 (dk_at dksX0_at_0 8 rfl rfl)
theorem dX0_at_9 : decode cX0_at 9 = .ok (.areturn, 1) := dk_176 (dk_at dksX0_at_0 9 rfl rfl)
abbrev cX0_set : ByteArray := prog_1_method_18_code
def yX0_set : MethodName := ⟨RX0, "set", "(III)Z"⟩
def dkwX0_set_5 : List UInt8 := [182, 0, 109, 172]
abbrev dktX0_set_5 : List UInt8 := dkwX0_set_5 ++ []
def dkwX0_set_4 : List UInt8 := [42, 180, 0, 20, 29, 181, 0, 190, 167, 0, 14, 42, 28, 182, 0, 161, 180, 0, 193, 27, 29, 79, 42]
abbrev dktX0_set_4 : List UInt8 := dkwX0_set_4 ++ dktX0_set_5
def dkwX0_set_3 : List UInt8 := [42, 28, 182, 0, 161, 29, 181, 0, 184, 167, 0, 37, 42, 28, 182, 0, 161, 29, 181, 0, 187, 167, 0, 25]
abbrev dktX0_set_3 : List UInt8 := dkwX0_set_3 ++ dktX0_set_4
def dkwX0_set_2 : List UInt8 := [42, 28, 182, 0, 161, 29, 181, 0, 178, 167, 0, 61, 42, 28, 182, 0, 161, 29, 181, 0, 181, 167, 0, 49]
abbrev dktX0_set_2 : List UInt8 := dkwX0_set_2 ++ dktX0_set_3
def dkwX0_set_1 : List UInt8 := [170, 0, 0, 0, 0, 0, 94, 0, 0, 0, 4, 0, 0, 0, 8, 0, 0, 0, 35, 0, 0, 0, 47, 0, 0, 0, 59, 0, 0, 0, 71, 0, 0, 0, 83]
abbrev dktX0_set_1 : List UInt8 := dkwX0_set_1 ++ dktX0_set_2
def dkwX0_set_0 : List UInt8 := [42, 27, 28, 29, 182, 0, 175, 154, 0, 5, 3, 172, 27]
abbrev dktX0_set_0 : List UInt8 := dkwX0_set_0 ++ dktX0_set_1
theorem dksX0_set_0 : cX0_set.data.toList.drop 0 = dktX0_set_0 := by decide +kernel
theorem dksX0_set_1 : cX0_set.data.toList.drop 13 = dktX0_set_1 := dk_seg dksX0_set_0 13 rfl rfl
theorem dksX0_set_2 : cX0_set.data.toList.drop 48 = dktX0_set_2 := dk_seg dksX0_set_1 35 rfl rfl
theorem dksX0_set_3 : cX0_set.data.toList.drop 72 = dktX0_set_3 := dk_seg dksX0_set_2 24 rfl rfl
theorem dksX0_set_4 : cX0_set.data.toList.drop 96 = dktX0_set_4 := dk_seg dksX0_set_3 24 rfl rfl
theorem dksX0_set_5 : cX0_set.data.toList.drop 119 = dktX0_set_5 := dk_seg dksX0_set_4 23 rfl rfl
theorem dX0_set_0 : decode cX0_set 0 = .ok (.aload_n 0, 1) := dk_42 (dk_at dksX0_set_0 0 rfl rfl)
theorem dX0_set_1 : decode cX0_set 1 = .ok (.iload_n 1, 1) := dk_27 (dk_at dksX0_set_0 1 rfl rfl)
theorem dX0_set_2 : decode cX0_set 2 = .ok (.iload_n 2, 1) := dk_28 (dk_at dksX0_set_0 2 rfl rfl)
theorem dX0_set_3 : decode cX0_set 3 = .ok (.iload_n 3, 1) := dk_29 (dk_at dksX0_set_0 3 rfl rfl)
theorem dX0_set_4 : decode cX0_set 4 = .ok (.invokevirtual 175, 3) := dk_182 0 175 (dk_at dksX0_set_0 4 rfl rfl)
theorem dX0_set_7 : decode cX0_set 7 = .ok (.ifCond .ne 5, 3) := dk_154 0 5 (dk_at dksX0_set_0 7 rfl rfl)
theorem dX0_set_10 : decode cX0_set 10 = .ok (.iconst 0, 1) := dk_3 (dk_at dksX0_set_0 10 rfl rfl)
theorem dX0_set_11 : decode cX0_set 11 = .ok (.ireturn, 1) := dk_172 (dk_at dksX0_set_0 11 rfl rfl)
theorem dX0_set_12 : decode cX0_set 12 = .ok (.iload_n 1, 1) := dk_27 (dk_at dksX0_set_0 12 rfl rfl)
theorem dX0_set_13 : decode cX0_set 13 = .ok (.tableswitch 94 4 8 #[35, 47, 59, 71, 83], 35) := by decide +kernel
theorem dX0_set_48 : decode cX0_set 48 = .ok (.aload_n 0, 1) := dk_42 (dk_at dksX0_set_2 0 rfl rfl)
theorem dX0_set_49 : decode cX0_set 49 = .ok (.iload_n 2, 1) := dk_28 (dk_at dksX0_set_2 1 rfl rfl)
theorem dX0_set_50 : decode cX0_set 50 = .ok (.invokevirtual 161, 3) := dk_182 0 161 (dk_at dksX0_set_2 2 rfl rfl)
theorem dX0_set_53 : decode cX0_set 53 = .ok (.iload_n 3, 1) := dk_29 (dk_at dksX0_set_2 5 rfl rfl)
theorem dX0_set_54 : decode cX0_set 54 = .ok (.putfield 178, 3) := dk_181 0 178 (dk_at dksX0_set_2 6 rfl rfl)
theorem dX0_set_57 : decode cX0_set 57 = .ok (.goto 61, 3) := dk_167 0 61 (dk_at dksX0_set_2 9 rfl rfl)
theorem dX0_set_60 : decode cX0_set 60 = .ok (.aload_n 0, 1) := dk_42 (dk_at dksX0_set_2 12 rfl rfl)
theorem dX0_set_61 : decode cX0_set 61 = .ok (.iload_n 2, 1) := dk_28 (dk_at dksX0_set_2 13 rfl rfl)
theorem dX0_set_62 : decode cX0_set 62 = .ok (.invokevirtual 161, 3) := dk_182 0 161 (dk_at dksX0_set_2 14 rfl rfl)
theorem dX0_set_65 : decode cX0_set 65 = .ok (.iload_n 3, 1) := dk_29 (dk_at dksX0_set_2 17 rfl rfl)
theorem dX0_set_66 : decode cX0_set 66 = .ok (.putfield 181, 3) := dk_181 0 181 (dk_at dksX0_set_2 18 rfl rfl)
theorem dX0_set_69 : decode cX0_set 69 = .ok (.goto 49, 3) := dk_167 0 49 (dk_at dksX0_set_2 21 rfl rfl)
theorem dX0_set_72 : decode cX0_set 72 = .ok (.aload_n 0, 1) := dk_42 (dk_at dksX0_set_3 0 rfl rfl)
theorem dX0_set_73 : decode cX0_set 73 = .ok (.iload_n 2, 1) := dk_28 (dk_at dksX0_set_3 1 rfl rfl)
theorem dX0_set_74 : decode cX0_set 74 = .ok (.invokevirtual 161, 3) := dk_182 0 161 (dk_at dksX0_set_3 2 rfl rfl)
theorem dX0_set_77 : decode cX0_set 77 = .ok (.iload_n 3, 1) := dk_29 (dk_at dksX0_set_3 5 rfl rfl)
theorem dX0_set_78 : decode cX0_set 78 = .ok (.putfield 184, 3) := dk_181 0 184 (dk_at dksX0_set_3 6 rfl rfl)
theorem dX0_set_81 : decode cX0_set 81 = .ok (.goto 37, 3) := dk_167 0 37 (dk_at dksX0_set_3 9 rfl rfl)
theorem dX0_set_84 : decode cX0_set 84 = .ok (.aload_n 0, 1) := dk_42 (dk_at dksX0_set_3 12 rfl rfl)
theorem dX0_set_85 : decode cX0_set 85 = .ok (.iload_n 2, 1) := dk_28 (dk_at dksX0_set_3 13 rfl rfl)
theorem dX0_set_86 : decode cX0_set 86 = .ok (.invokevirtual 161, 3) := dk_182 0 161 (dk_at dksX0_set_3 14 rfl rfl)
theorem dX0_set_89 : decode cX0_set 89 = .ok (.iload_n 3, 1) := dk_29 (dk_at dksX0_set_3 17 rfl rfl)
theorem dX0_set_90 : decode cX0_set 90 = .ok (.putfield 187, 3) := dk_181 0 187 (dk_at dksX0_set_3 18 rfl rfl)
theorem dX0_set_93 : decode cX0_set 93 = .ok (.goto 25, 3) := dk_167 0 25 (dk_at dksX0_set_3 21 rfl rfl)
theorem dX0_set_96 : decode cX0_set 96 = .ok (.aload_n 0, 1) := dk_42 (dk_at dksX0_set_4 0 rfl rfl)
theorem dX0_set_97 : decode cX0_set 97 = .ok (.getfield 20, 3) := dk_180 0 20 (dk_at dksX0_set_4 1 rfl rfl)
theorem dX0_set_100 : decode cX0_set 100 = .ok (.iload_n 3, 1) := dk_29 (dk_at dksX0_set_4 4 rfl rfl)
theorem dX0_set_101 : decode cX0_set 101 = .ok (.putfield 190, 3) := dk_181 0 190 (dk_at dksX0_set_4 5 rfl rfl)
theorem dX0_set_104 : decode cX0_set 104 = .ok (.goto 14, 3) := dk_167 0 14 (dk_at dksX0_set_4 8 rfl rfl)
theorem dX0_set_107 : decode cX0_set 107 = .ok (.aload_n 0, 1) := dk_42 (dk_at dksX0_set_4 11 rfl rfl)
theorem dX0_set_108 : decode cX0_set 108 = .ok (.iload_n 2, 1) := dk_28 (dk_at dksX0_set_4 12 rfl rfl)
theorem dX0_set_109 : decode cX0_set 109 = .ok (.invokevirtual 161, 3) := dk_182 0 161 (dk_at dksX0_set_4 13 rfl rfl)
theorem dX0_set_112 : decode cX0_set 112 = .ok (.getfield 193, 3) := dk_180 0 193 (dk_at dksX0_set_4 16 rfl rfl)
theorem dX0_set_115 : decode cX0_set 115 = .ok (.iload_n 1, 1) := dk_27 (dk_at dksX0_set_4 19 rfl rfl)
theorem dX0_set_116 : decode cX0_set 116 = .ok (.iload_n 3, 1) := dk_29 (dk_at dksX0_set_4 20 rfl rfl)
theorem dX0_set_117 : decode cX0_set 117 = .ok (.iastore, 1) := dk_79 (dk_at dksX0_set_4 21 rfl rfl)
theorem dX0_set_118 : decode cX0_set 118 = .ok (.aload_n 0, 1) := dk_42 (dk_at dksX0_set_4 22 rfl rfl)
theorem dX0_set_119 : decode cX0_set 119 = .ok (.invokevirtual 109, 3) := dk_182 0 109 (dk_at dksX0_set_5 0 rfl rfl)
theorem dX0_set_122 : decode cX0_set 122 = .ok (.ireturn, 1) := dk_172 (dk_at dksX0_set_5 3 rfl rfl)
abbrev cX0_canSet : ByteArray := prog_1_method_17_code
def yX0_canSet : MethodName := ⟨RX0, "canSet", "(III)Z"⟩
def dkwX0_canSet_2 : List UInt8 := [167, 0, 5, 16, 9, 184, 0, 81, 153, 0, 7, 4, 167, 0, 4, 3, 172]
abbrev dktX0_canSet_2 : List UInt8 := dkwX0_canSet_2 ++ []
def dkwX0_canSet_1 : List UInt8 := [16, 7, 184, 0, 81, 153, 0, 33, 29, 3, 27, 7, 161, 0, 9, 27, 16, 7, 160, 0, 8, 16, 99]
abbrev dktX0_canSet_1 : List UInt8 := dkwX0_canSet_1 ++ dktX0_canSet_2
def dkwX0_canSet_0 : List UInt8 := [27, 16, 8, 160, 0, 11, 29, 3, 16, 9, 184, 0, 81, 172, 42, 28, 182, 0, 171, 153, 0, 43, 27, 3]
abbrev dktX0_canSet_0 : List UInt8 := dkwX0_canSet_0 ++ dktX0_canSet_1
theorem dksX0_canSet_0 : cX0_canSet.data.toList.drop 0 = dktX0_canSet_0 := by decide +kernel
theorem dksX0_canSet_1 : cX0_canSet.data.toList.drop 24 = dktX0_canSet_1 := dk_seg dksX0_canSet_0 24 rfl rfl
theorem dksX0_canSet_2 : cX0_canSet.data.toList.drop 47 = dktX0_canSet_2 := dk_seg dksX0_canSet_1 23 rfl rfl
theorem dX0_canSet_0 : decode cX0_canSet 0 = .ok (.iload_n 1, 1) := dk_27 (dk_at dksX0_canSet_0 0 rfl rfl)
theorem dX0_canSet_1 : decode cX0_canSet 1 = .ok (.bipush 8, 2) := dk_16 8 (dk_at dksX0_canSet_0 1 rfl rfl)
theorem dX0_canSet_3 : decode cX0_canSet 3 = .ok (.if_icmp .ne 11, 3) := dk_160 0 11 (dk_at dksX0_canSet_0 3 rfl rfl)
theorem dX0_canSet_6 : decode cX0_canSet 6 = .ok (.iload_n 3, 1) := dk_29 (dk_at dksX0_canSet_0 6 rfl rfl)
theorem dX0_canSet_7 : decode cX0_canSet 7 = .ok (.iconst 0, 1) := dk_3 (dk_at dksX0_canSet_0 7 rfl rfl)
theorem dX0_canSet_8 : decode cX0_canSet 8 = .ok (.bipush 9, 2) := dk_16 9 (dk_at dksX0_canSet_0 8 rfl rfl)
theorem dX0_canSet_10 : decode cX0_canSet 10 = .ok (.invokestatic 81, 3) := dk_184 0 81 (dk_at dksX0_canSet_0 10 rfl rfl)
theorem dX0_canSet_13 : decode cX0_canSet 13 = .ok (.ireturn, 1) := dk_172 (dk_at dksX0_canSet_0 13 rfl rfl)
theorem dX0_canSet_14 : decode cX0_canSet 14 = .ok (.aload_n 0, 1) := dk_42 (dk_at dksX0_canSet_0 14 rfl rfl)
theorem dX0_canSet_15 : decode cX0_canSet 15 = .ok (.iload_n 2, 1) := dk_28 (dk_at dksX0_canSet_0 15 rfl rfl)
theorem dX0_canSet_16 : decode cX0_canSet 16 = .ok (.invokevirtual 171, 3) := dk_182 0 171 (dk_at dksX0_canSet_0 16 rfl rfl)
theorem dX0_canSet_19 : decode cX0_canSet 19 = .ok (.ifCond .eq 43, 3) := dk_153 0 43 (dk_at dksX0_canSet_0 19 rfl rfl)
theorem dX0_canSet_22 : decode cX0_canSet 22 = .ok (.iload_n 1, 1) := dk_27 (dk_at dksX0_canSet_0 22 rfl rfl)
theorem dX0_canSet_23 : decode cX0_canSet 23 = .ok (.iconst 0, 1) := dk_3 (dk_at dksX0_canSet_0 23 rfl rfl)
theorem dX0_canSet_24 : decode cX0_canSet 24 = .ok (.bipush 7, 2) := dk_16 7 (dk_at dksX0_canSet_1 0 rfl rfl)
theorem dX0_canSet_26 : decode cX0_canSet 26 = .ok (.invokestatic 81, 3) := dk_184 0 81 (dk_at dksX0_canSet_1 2 rfl rfl)
theorem dX0_canSet_29 : decode cX0_canSet 29 = .ok (.ifCond .eq 33, 3) := dk_153 0 33 (dk_at dksX0_canSet_1 5 rfl rfl)
theorem dX0_canSet_32 : decode cX0_canSet 32 = .ok (.iload_n 3, 1) := dk_29 (dk_at dksX0_canSet_1 8 rfl rfl)
theorem dX0_canSet_33 : decode cX0_canSet 33 = .ok (.iconst 0, 1) := dk_3 (dk_at dksX0_canSet_1 9 rfl rfl)
theorem dX0_canSet_34 : decode cX0_canSet 34 = .ok (.iload_n 1, 1) := dk_27 (dk_at dksX0_canSet_1 10 rfl rfl)
theorem dX0_canSet_35 : decode cX0_canSet 35 = .ok (.iconst 4, 1) := dk_7 (dk_at dksX0_canSet_1 11 rfl rfl)
theorem dX0_canSet_36 : decode cX0_canSet 36 = .ok (.if_icmp .lt 9, 3) := dk_161 0 9 (dk_at dksX0_canSet_1 12 rfl rfl)
theorem dX0_canSet_39 : decode cX0_canSet 39 = .ok (.iload_n 1, 1) := dk_27 (dk_at dksX0_canSet_1 15 rfl rfl)
theorem dX0_canSet_40 : decode cX0_canSet 40 = .ok (.bipush 7, 2) := dk_16 7 (dk_at dksX0_canSet_1 16 rfl rfl)
theorem dX0_canSet_42 : decode cX0_canSet 42 = .ok (.if_icmp .ne 8, 3) := dk_160 0 8 (dk_at dksX0_canSet_1 18 rfl rfl)
theorem dX0_canSet_45 : decode cX0_canSet 45 = .ok (.bipush 99, 2) := dk_16 99 (dk_at dksX0_canSet_1 21 rfl rfl)
theorem dX0_canSet_47 : decode cX0_canSet 47 = .ok (.goto 5, 3) := dk_167 0 5 (dk_at dksX0_canSet_2 0 rfl rfl)
theorem dX0_canSet_50 : decode cX0_canSet 50 = .ok (.bipush 9, 2) := dk_16 9 (dk_at dksX0_canSet_2 3 rfl rfl)
theorem dX0_canSet_52 : decode cX0_canSet 52 = .ok (.invokestatic 81, 3) := dk_184 0 81 (dk_at dksX0_canSet_2 5 rfl rfl)
theorem dX0_canSet_55 : decode cX0_canSet 55 = .ok (.ifCond .eq 7, 3) := dk_153 0 7 (dk_at dksX0_canSet_2 8 rfl rfl)
theorem dX0_canSet_58 : decode cX0_canSet 58 = .ok (.iconst 1, 1) := dk_4 (dk_at dksX0_canSet_2 11 rfl rfl)
theorem dX0_canSet_59 : decode cX0_canSet 59 = .ok (.goto 4, 3) := dk_167 0 4 (dk_at dksX0_canSet_2 12 rfl rfl)
theorem dX0_canSet_62 : decode cX0_canSet 62 = .ok (.iconst 0, 1) := dk_3 (dk_at dksX0_canSet_2 15 rfl rfl)
theorem dX0_canSet_63 : decode cX0_canSet 63 = .ok (.ireturn, 1) := dk_172 (dk_at dksX0_canSet_2 16 rfl rfl)
abbrev cX0_isHouse : ByteArray := prog_1_method_13_code
def yX0_isHouse : MethodName := ⟨RX0, "isHouse", "(I)Z"⟩
def dkwX0_isHouse_0 : List UInt8 := [27, 3, 42, 180, 0, 20, 180, 0, 151, 4, 100, 184, 0, 81, 172]
abbrev dktX0_isHouse_0 : List UInt8 := dkwX0_isHouse_0 ++ []
theorem dksX0_isHouse_0 : cX0_isHouse.data.toList.drop 0 = dktX0_isHouse_0 := by decide +kernel
theorem dX0_isHouse_0 : decode cX0_isHouse 0 = .ok (.iload_n 1, 1) := dk_27 (dk_at dksX0_isHouse_0 0 rfl rfl)
theorem dX0_isHouse_1 : decode cX0_isHouse 1 = .ok (.iconst 0, 1) := dk_3 (dk_at dksX0_isHouse_0 1 rfl rfl)
theorem dX0_isHouse_2 : decode cX0_isHouse 2 = .ok (.aload_n 0, 1) := dk_42 (dk_at dksX0_isHouse_0 2 rfl rfl)
theorem dX0_isHouse_3 : decode cX0_isHouse 3 = .ok (.getfield 20, 3) := dk_180 0 20 (dk_at dksX0_isHouse_0 3 rfl rfl)
theorem dX0_isHouse_6 : decode cX0_isHouse 6 = .ok (.getfield 151, 3) := dk_180 0 151 (dk_at dksX0_isHouse_0 6 rfl rfl)
theorem dX0_isHouse_9 : decode cX0_isHouse 9 = .ok (.iconst 1, 1) := dk_4 (dk_at dksX0_isHouse_0 9 rfl rfl)
theorem dX0_isHouse_10 : decode cX0_isHouse 10 = .ok (.isub, 1) := dk_100 (dk_at dksX0_isHouse_0 10 rfl rfl)
theorem dX0_isHouse_11 : decode cX0_isHouse 11 = .ok (.invokestatic 81, 3) := dk_184 0 81 (dk_at dksX0_isHouse_0 11 rfl rfl)
theorem dX0_isHouse_14 : decode cX0_isHouse 14 = .ok (.ireturn, 1) := dk_172 (dk_at dksX0_isHouse_0 14 rfl rfl)
abbrev cX0_act : ByteArray := prog_1_method_20_code
def yX0_act : MethodName := ⟨RX0, "act", "(III)Z"⟩
def dkwX0_act_5 : List UInt8 := [182, 0, 217, 167, 0, 16, 42, 28, 182, 0, 161, 27, 16, 10, 100, 29, 182, 0, 220, 4, 172]
abbrev dktX0_act_5 : List UInt8 := dkwX0_act_5 ++ []
def dkwX0_act_4 : List UInt8 := [180, 0, 20, 28, 182, 0, 214, 167, 0, 34, 27, 7, 162, 0, 16, 42, 180, 0, 20, 28, 27, 29]
abbrev dktX0_act_4 : List UInt8 := dkwX0_act_4 ++ dktX0_act_5
def dkwX0_act_3 : List UInt8 := [42, 180, 0, 20, 28, 182, 0, 208, 167, 0, 57, 42, 180, 0, 20, 28, 29, 182, 0, 211, 167, 0, 45, 42]
abbrev dktX0_act_3 : List UInt8 := dkwX0_act_3 ++ dktX0_act_4
def dkwX0_act_2 : List UInt8 := [170, 0, 0, 0, 0, 0, 61, 0, 0, 0, 20, 0, 0, 0, 22, 0, 0, 0, 27, 0, 0, 0, 38, 0, 0, 0, 50]
abbrev dktX0_act_2 : List UInt8 := dkwX0_act_2 ++ dktX0_act_3
def dkwX0_act_1 : List UInt8 := [27]
abbrev dktX0_act_1 : List UInt8 := dkwX0_act_1 ++ dktX0_act_2
def dkwX0_act_0 : List UInt8 := [42, 28, 182, 0, 171, 153, 0, 13, 42, 27, 28, 29, 182, 0, 202, 154, 0, 5, 3, 172, 42, 182, 0, 205]
abbrev dktX0_act_0 : List UInt8 := dkwX0_act_0 ++ dktX0_act_1
theorem dksX0_act_0 : cX0_act.data.toList.drop 0 = dktX0_act_0 := by decide +kernel
theorem dksX0_act_1 : cX0_act.data.toList.drop 24 = dktX0_act_1 := dk_seg dksX0_act_0 24 rfl rfl
theorem dksX0_act_2 : cX0_act.data.toList.drop 25 = dktX0_act_2 := dk_seg dksX0_act_1 1 rfl rfl
theorem dksX0_act_3 : cX0_act.data.toList.drop 52 = dktX0_act_3 := dk_seg dksX0_act_2 27 rfl rfl
theorem dksX0_act_4 : cX0_act.data.toList.drop 76 = dktX0_act_4 := dk_seg dksX0_act_3 24 rfl rfl
theorem dksX0_act_5 : cX0_act.data.toList.drop 98 = dktX0_act_5 := dk_seg dksX0_act_4 22 rfl rfl
theorem dX0_act_0 : decode cX0_act 0 = .ok (.aload_n 0, 1) := dk_42 (dk_at dksX0_act_0 0 rfl rfl)
theorem dX0_act_1 : decode cX0_act 1 = .ok (.iload_n 2, 1) := dk_28 (dk_at dksX0_act_0 1 rfl rfl)
theorem dX0_act_2 : decode cX0_act 2 = .ok (.invokevirtual 171, 3) := dk_182 0 171 (dk_at dksX0_act_0 2 rfl rfl)
theorem dX0_act_5 : decode cX0_act 5 = .ok (.ifCond .eq 13, 3) := dk_153 0 13 (dk_at dksX0_act_0 5 rfl rfl)
theorem dX0_act_8 : decode cX0_act 8 = .ok (.aload_n 0, 1) := dk_42 (dk_at dksX0_act_0 8 rfl rfl)
theorem dX0_act_9 : decode cX0_act 9 = .ok (.iload_n 1, 1) := dk_27 (dk_at dksX0_act_0 9 rfl rfl)
theorem dX0_act_10 : decode cX0_act 10 = .ok (.iload_n 2, 1) := dk_28 (dk_at dksX0_act_0 10 rfl rfl)
theorem dX0_act_11 : decode cX0_act 11 = .ok (.iload_n 3, 1) := dk_29 (dk_at dksX0_act_0 11 rfl rfl)
theorem dX0_act_12 : decode cX0_act 12 = .ok (.invokevirtual 202, 3) := dk_182 0 202 (dk_at dksX0_act_0 12 rfl rfl)
theorem dX0_act_15 : decode cX0_act 15 = .ok (.ifCond .ne 5, 3) := dk_154 0 5 (dk_at dksX0_act_0 15 rfl rfl)
theorem dX0_act_18 : decode cX0_act 18 = .ok (.iconst 0, 1) := dk_3 (dk_at dksX0_act_0 18 rfl rfl)
theorem dX0_act_19 : decode cX0_act 19 = .ok (.ireturn, 1) := dk_172 (dk_at dksX0_act_0 19 rfl rfl)
theorem dX0_act_20 : decode cX0_act 20 = .ok (.aload_n 0, 1) := dk_42 (dk_at dksX0_act_0 20 rfl rfl)
theorem dX0_act_21 : decode cX0_act 21 = .ok (.invokevirtual 205, 3) := dk_182 0 205 (dk_at dksX0_act_0 21 rfl rfl)
theorem dX0_act_24 : decode cX0_act 24 = .ok (.iload_n 1, 1) := dk_27 (dk_at dksX0_act_1 0 rfl rfl)
theorem dX0_act_25 : decode cX0_act 25 = .ok (.tableswitch 61 20 22 #[27, 38, 50], 27) := by decide +kernel
theorem dX0_act_52 : decode cX0_act 52 = .ok (.aload_n 0, 1) := dk_42 (dk_at dksX0_act_3 0 rfl rfl)
theorem dX0_act_53 : decode cX0_act 53 = .ok (.getfield 20, 3) := dk_180 0 20 (dk_at dksX0_act_3 1 rfl rfl)
theorem dX0_act_56 : decode cX0_act 56 = .ok (.iload_n 2, 1) := dk_28 (dk_at dksX0_act_3 4 rfl rfl)
theorem dX0_act_57 : decode cX0_act 57 = .ok (.invokevirtual 208, 3) := dk_182 0 208 (dk_at dksX0_act_3 5 rfl rfl)
theorem dX0_act_60 : decode cX0_act 60 = .ok (.goto 57, 3) := dk_167 0 57 (dk_at dksX0_act_3 8 rfl rfl)
theorem dX0_act_63 : decode cX0_act 63 = .ok (.aload_n 0, 1) := dk_42 (dk_at dksX0_act_3 11 rfl rfl)
theorem dX0_act_64 : decode cX0_act 64 = .ok (.getfield 20, 3) := dk_180 0 20 (dk_at dksX0_act_3 12 rfl rfl)
theorem dX0_act_67 : decode cX0_act 67 = .ok (.iload_n 2, 1) := dk_28 (dk_at dksX0_act_3 15 rfl rfl)
theorem dX0_act_68 : decode cX0_act 68 = .ok (.iload_n 3, 1) := dk_29 (dk_at dksX0_act_3 16 rfl rfl)
theorem dX0_act_69 : decode cX0_act 69 = .ok (.invokevirtual 211, 3) := dk_182 0 211 (dk_at dksX0_act_3 17 rfl rfl)
theorem dX0_act_72 : decode cX0_act 72 = .ok (.goto 45, 3) := dk_167 0 45 (dk_at dksX0_act_3 20 rfl rfl)
theorem dX0_act_75 : decode cX0_act 75 = .ok (.aload_n 0, 1) := dk_42 (dk_at dksX0_act_3 23 rfl rfl)
theorem dX0_act_76 : decode cX0_act 76 = .ok (.getfield 20, 3) := dk_180 0 20 (dk_at dksX0_act_4 0 rfl rfl)
theorem dX0_act_79 : decode cX0_act 79 = .ok (.iload_n 2, 1) := dk_28 (dk_at dksX0_act_4 3 rfl rfl)
theorem dX0_act_80 : decode cX0_act 80 = .ok (.invokevirtual 214, 3) := dk_182 0 214 (dk_at dksX0_act_4 4 rfl rfl)
theorem dX0_act_83 : decode cX0_act 83 = .ok (.goto 34, 3) := dk_167 0 34 (dk_at dksX0_act_4 7 rfl rfl)
theorem dX0_act_86 : decode cX0_act 86 = .ok (.iload_n 1, 1) := dk_27 (dk_at dksX0_act_4 10 rfl rfl)
theorem dX0_act_87 : decode cX0_act 87 = .ok (.iconst 4, 1) := dk_7 (dk_at dksX0_act_4 11 rfl rfl)
theorem dX0_act_88 : decode cX0_act 88 = .ok (.if_icmp .ge 16, 3) := dk_162 0 16 (dk_at dksX0_act_4 12 rfl rfl)
theorem dX0_act_91 : decode cX0_act 91 = .ok (.aload_n 0, 1) := dk_42 (dk_at dksX0_act_4 15 rfl rfl)
theorem dX0_act_92 : decode cX0_act 92 = .ok (.getfield 20, 3) := dk_180 0 20 (dk_at dksX0_act_4 16 rfl rfl)
theorem dX0_act_95 : decode cX0_act 95 = .ok (.iload_n 2, 1) := dk_28 (dk_at dksX0_act_4 19 rfl rfl)
theorem dX0_act_96 : decode cX0_act 96 = .ok (.iload_n 1, 1) := dk_27 (dk_at dksX0_act_4 20 rfl rfl)
theorem dX0_act_97 : decode cX0_act 97 = .ok (.iload_n 3, 1) := dk_29 (dk_at dksX0_act_4 21 rfl rfl)
theorem dX0_act_98 : decode cX0_act 98 = .ok (.invokevirtual 217, 3) := dk_182 0 217 (dk_at dksX0_act_5 0 rfl rfl)
theorem dX0_act_101 : decode cX0_act 101 = .ok (.goto 16, 3) := dk_167 0 16 (dk_at dksX0_act_5 3 rfl rfl)
theorem dX0_act_104 : decode cX0_act 104 = .ok (.aload_n 0, 1) := dk_42 (dk_at dksX0_act_5 6 rfl rfl)
theorem dX0_act_105 : decode cX0_act 105 = .ok (.iload_n 2, 1) := dk_28 (dk_at dksX0_act_5 7 rfl rfl)
theorem dX0_act_106 : decode cX0_act 106 = .ok (.invokevirtual 161, 3) := dk_182 0 161 (dk_at dksX0_act_5 8 rfl rfl)
theorem dX0_act_109 : decode cX0_act 109 = .ok (.iload_n 1, 1) := dk_27 (dk_at dksX0_act_5 11 rfl rfl)
theorem dX0_act_110 : decode cX0_act 110 = .ok (.bipush 10, 2) := dk_16 10 (dk_at dksX0_act_5 12 rfl rfl)
theorem dX0_act_112 : decode cX0_act 112 = .ok (.isub, 1) := dk_100 (dk_at dksX0_act_5 14 rfl rfl)
theorem dX0_act_113 : decode cX0_act 113 = .ok (.iload_n 3, 1) := dk_29 (dk_at dksX0_act_5 15 rfl rfl)
theorem dX0_act_114 : decode cX0_act 114 = .ok (.invokevirtual 220, 3) := dk_182 0 220 (dk_at dksX0_act_5 16 rfl rfl)
theorem dX0_act_117 : decode cX0_act 117 = .ok (.iconst 1, 1) := dk_4 (dk_at dksX0_act_5 19 rfl rfl)
theorem dX0_act_118 : decode cX0_act 118 = .ok (.ireturn, 1) := dk_172 (dk_at dksX0_act_5 20 rfl rfl)
abbrev cX0_canAct : ByteArray := prog_1_method_19_code
def yX0_canAct : MethodName := ⟨RX0, "canAct", "(III)Z"⟩
def dkwX0_canAct_6 : List UInt8 := [172]
abbrev dktX0_canAct_6 : List UInt8 := dkwX0_canAct_6 ++ []
def dkwX0_canAct_5 : List UInt8 := [3, 172, 27, 16, 22, 160, 0, 18, 42, 28, 182, 0, 161, 182, 0, 199, 153, 0, 7, 4, 167, 0, 4, 3]
abbrev dktX0_canAct_5 : List UInt8 := dkwX0_canAct_5 ++ dktX0_canAct_6
def dkwX0_canAct_4 : List UInt8 := [182, 0, 161, 182, 0, 199, 153, 0, 18, 42, 28, 182, 0, 161, 180, 0, 187, 158, 0, 7, 4, 167, 0, 4]
abbrev dktX0_canAct_4 : List UInt8 := dkwX0_canAct_4 ++ dktX0_canAct_5
def dkwX0_canAct_3 : List UInt8 := [42, 180, 0, 20, 28, 182, 0, 196, 172, 42, 29, 182, 0, 171, 153, 0, 34, 29, 28, 159, 0, 29, 42, 29]
abbrev dktX0_canAct_3 : List UInt8 := dkwX0_canAct_3 ++ dktX0_canAct_4
def dkwX0_canAct_2 : List UInt8 := [171, 0, 0, 0, 0, 0, 77, 0, 0, 0, 2, 0, 0, 0, 20, 0, 0, 0, 27, 0, 0, 0, 21, 0, 0, 0, 36]
abbrev dktX0_canAct_2 : List UInt8 := dkwX0_canAct_2 ++ dktX0_canAct_3
def dkwX0_canAct_1 : List UInt8 := [172, 27, 16, 10, 16, 13, 184, 0, 81, 153, 0, 11, 29, 4, 16, 99, 184, 0, 81, 172, 27]
abbrev dktX0_canAct_1 : List UInt8 := dkwX0_canAct_1 ++ dktX0_canAct_2
def dkwX0_canAct_0 : List UInt8 := [27, 3, 6, 184, 0, 81, 153, 0, 19, 29, 4, 42, 28, 182, 0, 161, 180, 0, 193, 27, 46, 184, 0, 81]
abbrev dktX0_canAct_0 : List UInt8 := dkwX0_canAct_0 ++ dktX0_canAct_1
theorem dksX0_canAct_0 : cX0_canAct.data.toList.drop 0 = dktX0_canAct_0 := by decide +kernel
theorem dksX0_canAct_1 : cX0_canAct.data.toList.drop 24 = dktX0_canAct_1 := dk_seg dksX0_canAct_0 24 rfl rfl
theorem dksX0_canAct_2 : cX0_canAct.data.toList.drop 45 = dktX0_canAct_2 := dk_seg dksX0_canAct_1 21 rfl rfl
theorem dksX0_canAct_3 : cX0_canAct.data.toList.drop 72 = dktX0_canAct_3 := dk_seg dksX0_canAct_2 27 rfl rfl
theorem dksX0_canAct_4 : cX0_canAct.data.toList.drop 96 = dktX0_canAct_4 := dk_seg dksX0_canAct_3 24 rfl rfl
theorem dksX0_canAct_5 : cX0_canAct.data.toList.drop 120 = dktX0_canAct_5 := dk_seg dksX0_canAct_4 24 rfl rfl
theorem dksX0_canAct_6 : cX0_canAct.data.toList.drop 144 = dktX0_canAct_6 := dk_seg dksX0_canAct_5 24 rfl rfl
theorem dX0_canAct_0 : decode cX0_canAct 0 = .ok (.iload_n 1, 1) := dk_27 (dk_at dksX0_canAct_0 0 rfl rfl)
theorem dX0_canAct_1 : decode cX0_canAct 1 = .ok (.iconst 0, 1) := dk_3 (dk_at dksX0_canAct_0 1 rfl rfl)
theorem dX0_canAct_2 : decode cX0_canAct 2 = .ok (.iconst 3, 1) := dk_6 (dk_at dksX0_canAct_0 2 rfl rfl)
theorem dX0_canAct_3 : decode cX0_canAct 3 = .ok (.invokestatic 81, 3) := dk_184 0 81 (dk_at dksX0_canAct_0 3 rfl rfl)
theorem dX0_canAct_6 : decode cX0_canAct 6 = .ok (.ifCond .eq 19, 3) := dk_153 0 19 (dk_at dksX0_canAct_0 6 rfl rfl)
theorem dX0_canAct_9 : decode cX0_canAct 9 = .ok (.iload_n 3, 1) := dk_29 (dk_at dksX0_canAct_0 9 rfl rfl)
theorem dX0_canAct_10 : decode cX0_canAct 10 = .ok (.iconst 1, 1) := dk_4 (dk_at dksX0_canAct_0 10 rfl rfl)
theorem dX0_canAct_11 : decode cX0_canAct 11 = .ok (.aload_n 0, 1) := dk_42 (dk_at dksX0_canAct_0 11 rfl rfl)
theorem dX0_canAct_12 : decode cX0_canAct 12 = .ok (.iload_n 2, 1) := dk_28 (dk_at dksX0_canAct_0 12 rfl rfl)
theorem dX0_canAct_13 : decode cX0_canAct 13 = .ok (.invokevirtual 161, 3) := dk_182 0 161 (dk_at dksX0_canAct_0 13 rfl rfl)
theorem dX0_canAct_16 : decode cX0_canAct 16 = .ok (.getfield 193, 3) := dk_180 0 193 (dk_at dksX0_canAct_0 16 rfl rfl)
theorem dX0_canAct_19 : decode cX0_canAct 19 = .ok (.iload_n 1, 1) := dk_27 (dk_at dksX0_canAct_0 19 rfl rfl)
theorem dX0_canAct_20 : decode cX0_canAct 20 = .ok (.iaload, 1) := dk_46 (dk_at dksX0_canAct_0 20 rfl rfl)
theorem dX0_canAct_21 : decode cX0_canAct 21 = .ok (.invokestatic 81, 3) := dk_184 0 81 (dk_at dksX0_canAct_0 21 rfl rfl)
theorem dX0_canAct_24 : decode cX0_canAct 24 = .ok (.ireturn, 1) := dk_172 (dk_at dksX0_canAct_1 0 rfl rfl)
theorem dX0_canAct_25 : decode cX0_canAct 25 = .ok (.iload_n 1, 1) := dk_27 (dk_at dksX0_canAct_1 1 rfl rfl)
theorem dX0_canAct_26 : decode cX0_canAct 26 = .ok (.bipush 10, 2) := dk_16 10 (dk_at dksX0_canAct_1 2 rfl rfl)
theorem dX0_canAct_28 : decode cX0_canAct 28 = .ok (.bipush 13, 2) := dk_16 13 (dk_at dksX0_canAct_1 4 rfl rfl)
theorem dX0_canAct_30 : decode cX0_canAct 30 = .ok (.invokestatic 81, 3) := dk_184 0 81 (dk_at dksX0_canAct_1 6 rfl rfl)
theorem dX0_canAct_33 : decode cX0_canAct 33 = .ok (.ifCond .eq 11, 3) := dk_153 0 11 (dk_at dksX0_canAct_1 9 rfl rfl)
theorem dX0_canAct_36 : decode cX0_canAct 36 = .ok (.iload_n 3, 1) := dk_29 (dk_at dksX0_canAct_1 12 rfl rfl)
theorem dX0_canAct_37 : decode cX0_canAct 37 = .ok (.iconst 1, 1) := dk_4 (dk_at dksX0_canAct_1 13 rfl rfl)
theorem dX0_canAct_38 : decode cX0_canAct 38 = .ok (.bipush 99, 2) := dk_16 99 (dk_at dksX0_canAct_1 14 rfl rfl)
theorem dX0_canAct_40 : decode cX0_canAct 40 = .ok (.invokestatic 81, 3) := dk_184 0 81 (dk_at dksX0_canAct_1 16 rfl rfl)
theorem dX0_canAct_43 : decode cX0_canAct 43 = .ok (.ireturn, 1) := dk_172 (dk_at dksX0_canAct_1 19 rfl rfl)
theorem dX0_canAct_44 : decode cX0_canAct 44 = .ok (.iload_n 1, 1) := dk_27 (dk_at dksX0_canAct_1 20 rfl rfl)
theorem dX0_canAct_45 : decode cX0_canAct 45 = .ok (.lookupswitch 77 #[(20, 27), (21, 36)], 27) := by decide +kernel
theorem dX0_canAct_72 : decode cX0_canAct 72 = .ok (.aload_n 0, 1) := dk_42 (dk_at dksX0_canAct_3 0 rfl rfl)
theorem dX0_canAct_73 : decode cX0_canAct 73 = .ok (.getfield 20, 3) := dk_180 0 20 (dk_at dksX0_canAct_3 1 rfl rfl)
theorem dX0_canAct_76 : decode cX0_canAct 76 = .ok (.iload_n 2, 1) := dk_28 (dk_at dksX0_canAct_3 4 rfl rfl)
theorem dX0_canAct_77 : decode cX0_canAct 77 = .ok (.invokevirtual 196, 3) := dk_182 0 196 (dk_at dksX0_canAct_3 5 rfl rfl)
theorem dX0_canAct_80 : decode cX0_canAct 80 = .ok (.ireturn, 1) := dk_172 (dk_at dksX0_canAct_3 8 rfl rfl)
theorem dX0_canAct_81 : decode cX0_canAct 81 = .ok (.aload_n 0, 1) := dk_42 (dk_at dksX0_canAct_3 9 rfl rfl)
theorem dX0_canAct_82 : decode cX0_canAct 82 = .ok (.iload_n 3, 1) := dk_29 (dk_at dksX0_canAct_3 10 rfl rfl)
theorem dX0_canAct_83 : decode cX0_canAct 83 = .ok (.invokevirtual 171, 3) := dk_182 0 171 (dk_at dksX0_canAct_3 11 rfl rfl)
theorem dX0_canAct_86 : decode cX0_canAct 86 = .ok (.ifCond .eq 34, 3) := dk_153 0 34 (dk_at dksX0_canAct_3 14 rfl rfl)
theorem dX0_canAct_89 : decode cX0_canAct 89 = .ok (.iload_n 3, 1) := dk_29 (dk_at dksX0_canAct_3 17 rfl rfl)
theorem dX0_canAct_90 : decode cX0_canAct 90 = .ok (.iload_n 2, 1) := dk_28 (dk_at dksX0_canAct_3 18 rfl rfl)
theorem dX0_canAct_91 : decode cX0_canAct 91 = .ok (.if_icmp .eq 29, 3) := dk_159 0 29 (dk_at dksX0_canAct_3 19 rfl rfl)
theorem dX0_canAct_94 : decode cX0_canAct 94 = .ok (.aload_n 0, 1) := dk_42 (dk_at dksX0_canAct_3 22 rfl rfl)
theorem dX0_canAct_95 : decode cX0_canAct 95 = .ok (.iload_n 3, 1) := dk_29 (dk_at dksX0_canAct_3 23 rfl rfl)
theorem dX0_canAct_96 : decode cX0_canAct 96 = .ok (.invokevirtual 161, 3) := dk_182 0 161 (dk_at dksX0_canAct_4 0 rfl rfl)
theorem dX0_canAct_99 : decode cX0_canAct 99 = .ok (.invokevirtual 199, 3) := dk_182 0 199 (dk_at dksX0_canAct_4 3 rfl rfl)
theorem dX0_canAct_102 : decode cX0_canAct 102 = .ok (.ifCond .eq 18, 3) := dk_153 0 18 (dk_at dksX0_canAct_4 6 rfl rfl)
theorem dX0_canAct_105 : decode cX0_canAct 105 = .ok (.aload_n 0, 1) := dk_42 (dk_at dksX0_canAct_4 9 rfl rfl)
theorem dX0_canAct_106 : decode cX0_canAct 106 = .ok (.iload_n 2, 1) := dk_28 (dk_at dksX0_canAct_4 10 rfl rfl)
theorem dX0_canAct_107 : decode cX0_canAct 107 = .ok (.invokevirtual 161, 3) := dk_182 0 161 (dk_at dksX0_canAct_4 11 rfl rfl)
theorem dX0_canAct_110 : decode cX0_canAct 110 = .ok (.getfield 187, 3) := dk_180 0 187 (dk_at dksX0_canAct_4 14 rfl rfl)
theorem dX0_canAct_113 : decode cX0_canAct 113 = .ok (.ifCond .le 7, 3) := dk_158 0 7 (dk_at dksX0_canAct_4 17 rfl rfl)
theorem dX0_canAct_116 : decode cX0_canAct 116 = .ok (.iconst 1, 1) := dk_4 (dk_at dksX0_canAct_4 20 rfl rfl)
theorem dX0_canAct_117 : decode cX0_canAct 117 = .ok (.goto 4, 3) := dk_167 0 4 (dk_at dksX0_canAct_4 21 rfl rfl)
theorem dX0_canAct_120 : decode cX0_canAct 120 = .ok (.iconst 0, 1) := dk_3 (dk_at dksX0_canAct_5 0 rfl rfl)
theorem dX0_canAct_121 : decode cX0_canAct 121 = .ok (.ireturn, 1) := dk_172 (dk_at dksX0_canAct_5 1 rfl rfl)
theorem dX0_canAct_122 : decode cX0_canAct 122 = .ok (.iload_n 1, 1) := dk_27 (dk_at dksX0_canAct_5 2 rfl rfl)
theorem dX0_canAct_123 : decode cX0_canAct 123 = .ok (.bipush 22, 2) := dk_16 22 (dk_at dksX0_canAct_5 3 rfl rfl)
theorem dX0_canAct_125 : decode cX0_canAct 125 = .ok (.if_icmp .ne 18, 3) := dk_160 0 18 (dk_at dksX0_canAct_5 5 rfl rfl)
theorem dX0_canAct_128 : decode cX0_canAct 128 = .ok (.aload_n 0, 1) := dk_42 (dk_at dksX0_canAct_5 8 rfl rfl)
theorem dX0_canAct_129 : decode cX0_canAct 129 = .ok (.iload_n 2, 1) := dk_28 (dk_at dksX0_canAct_5 9 rfl rfl)
theorem dX0_canAct_130 : decode cX0_canAct 130 = .ok (.invokevirtual 161, 3) := dk_182 0 161 (dk_at dksX0_canAct_5 10 rfl rfl)
theorem dX0_canAct_133 : decode cX0_canAct 133 = .ok (.invokevirtual 199, 3) := dk_182 0 199 (dk_at dksX0_canAct_5 13 rfl rfl)
theorem dX0_canAct_136 : decode cX0_canAct 136 = .ok (.ifCond .eq 7, 3) := dk_153 0 7 (dk_at dksX0_canAct_5 16 rfl rfl)
theorem dX0_canAct_139 : decode cX0_canAct 139 = .ok (.iconst 1, 1) := dk_4 (dk_at dksX0_canAct_5 19 rfl rfl)
theorem dX0_canAct_140 : decode cX0_canAct 140 = .ok (.goto 4, 3) := dk_167 0 4 (dk_at dksX0_canAct_5 20 rfl rfl)
theorem dX0_canAct_143 : decode cX0_canAct 143 = .ok (.iconst 0, 1) := dk_3 (dk_at dksX0_canAct_5 23 rfl rfl)
theorem dX0_canAct_144 : decode cX0_canAct 144 = .ok (.ireturn, 1) := dk_172 (dk_at dksX0_canAct_6 0 rfl rfl)
abbrev cX0_remembers : ByteArray := prog_1_method_11_code
def yX0_remembers : MethodName := ⟨RX0, "remembers", "()V"⟩
def dkwX0_remembers_3 : List UInt8 := [180, 0, 20, 182, 0, 147, 42, 89, 180, 0, 144, 4, 96, 181, 0, 144, 177]
abbrev dktX0_remembers_3 : List UInt8 := dkwX0_remembers_3 ++ []
def dkwX0_remembers_2 : List UInt8 := [8, 43, 83, 42, 89, 180, 0, 144, 4, 100, 181, 0, 144, 42, 180, 0, 30, 42, 180, 0, 144, 50, 42]
abbrev dktX0_remembers_2 : List UInt8 := dkwX0_remembers_2 ++ dktX0_remembers_3
def dkwX0_remembers_1 : List UInt8 := [42, 180, 0, 30, 28, 4, 100, 42, 180, 0, 30, 28, 50, 83, 132, 2, 1, 167, 255, 233, 42, 180, 0, 30]
abbrev dktX0_remembers_1 : List UInt8 := dkwX0_remembers_1 ++ dktX0_remembers_2
def dkwX0_remembers_0 : List UInt8 := [42, 180, 0, 144, 16, 6, 160, 0, 55, 42, 180, 0, 30, 3, 50, 76, 4, 61, 28, 16, 6, 162, 0, 23]
abbrev dktX0_remembers_0 : List UInt8 := dkwX0_remembers_0 ++ dktX0_remembers_1
theorem dksX0_remembers_0 : cX0_remembers.data.toList.drop 0 = dktX0_remembers_0 := by decide +kernel
theorem dksX0_remembers_1 : cX0_remembers.data.toList.drop 24 = dktX0_remembers_1 := dk_seg dksX0_remembers_0 24 rfl rfl
theorem dksX0_remembers_2 : cX0_remembers.data.toList.drop 48 = dktX0_remembers_2 := dk_seg dksX0_remembers_1 24 rfl rfl
theorem dksX0_remembers_3 : cX0_remembers.data.toList.drop 71 = dktX0_remembers_3 := dk_seg dksX0_remembers_2 23 rfl rfl
theorem dX0_remembers_0 : decode cX0_remembers 0 = .ok (.aload_n 0, 1) := dk_42 (dk_at dksX0_remembers_0 0 rfl rfl)
theorem dX0_remembers_1 : decode cX0_remembers 1 = .ok (.getfield 144, 3) := dk_180 0 144 (dk_at dksX0_remembers_0 1 rfl rfl)
theorem dX0_remembers_4 : decode cX0_remembers 4 = .ok (.bipush 6, 2) := dk_16 6 (dk_at dksX0_remembers_0 4 rfl rfl)
theorem dX0_remembers_6 : decode cX0_remembers 6 = .ok (.if_icmp .ne 55, 3) := dk_160 0 55 (dk_at dksX0_remembers_0 6 rfl rfl)
theorem dX0_remembers_9 : decode cX0_remembers 9 = .ok (.aload_n 0, 1) := dk_42 (dk_at dksX0_remembers_0 9 rfl rfl)
theorem dX0_remembers_10 : decode cX0_remembers 10 = .ok (.getfield 30, 3) := dk_180 0 30 (dk_at dksX0_remembers_0 10 rfl rfl)
theorem dX0_remembers_13 : decode cX0_remembers 13 = .ok (.iconst 0, 1) := dk_3 (dk_at dksX0_remembers_0 13 rfl rfl)
theorem dX0_remembers_14 : decode cX0_remembers 14 = .ok (.aaload, 1) := dk_50 (dk_at dksX0_remembers_0 14 rfl rfl)
theorem dX0_remembers_15 : decode cX0_remembers 15 = .ok (.astore_n 1, 1) := dk_76 (dk_at dksX0_remembers_0 15 rfl rfl)
theorem dX0_remembers_16 : decode cX0_remembers 16 = .ok (.iconst 1, 1) := dk_4 (dk_at dksX0_remembers_0 16 rfl rfl)
theorem dX0_remembers_17 : decode cX0_remembers 17 = .ok (.istore_n 2, 1) := dk_61 (dk_at dksX0_remembers_0 17 rfl rfl)
theorem dX0_remembers_18 : decode cX0_remembers 18 = .ok (.iload_n 2, 1) := dk_28 (dk_at dksX0_remembers_0 18 rfl rfl)
theorem dX0_remembers_19 : decode cX0_remembers 19 = .ok (.bipush 6, 2) := dk_16 6 (dk_at dksX0_remembers_0 19 rfl rfl)
theorem dX0_remembers_21 : decode cX0_remembers 21 = .ok (.if_icmp .ge 23, 3) := dk_162 0 23 (dk_at dksX0_remembers_0 21 rfl rfl)
theorem dX0_remembers_24 : decode cX0_remembers 24 = .ok (.aload_n 0, 1) := dk_42 (dk_at dksX0_remembers_1 0 rfl rfl)
theorem dX0_remembers_25 : decode cX0_remembers 25 = .ok (.getfield 30, 3) := dk_180 0 30 (dk_at dksX0_remembers_1 1 rfl rfl)
theorem dX0_remembers_28 : decode cX0_remembers 28 = .ok (.iload_n 2, 1) := dk_28 (dk_at dksX0_remembers_1 4 rfl rfl)
theorem dX0_remembers_29 : decode cX0_remembers 29 = .ok (.iconst 1, 1) := dk_4 (dk_at dksX0_remembers_1 5 rfl rfl)
theorem dX0_remembers_30 : decode cX0_remembers 30 = .ok (.isub, 1) := dk_100 (dk_at dksX0_remembers_1 6 rfl rfl)
theorem dX0_remembers_31 : decode cX0_remembers 31 = .ok (.aload_n 0, 1) := dk_42 (dk_at dksX0_remembers_1 7 rfl rfl)
theorem dX0_remembers_32 : decode cX0_remembers 32 = .ok (.getfield 30, 3) := dk_180 0 30 (dk_at dksX0_remembers_1 8 rfl rfl)
theorem dX0_remembers_35 : decode cX0_remembers 35 = .ok (.iload_n 2, 1) := dk_28 (dk_at dksX0_remembers_1 11 rfl rfl)
theorem dX0_remembers_36 : decode cX0_remembers 36 = .ok (.aaload, 1) := dk_50 (dk_at dksX0_remembers_1 12 rfl rfl)
theorem dX0_remembers_37 : decode cX0_remembers 37 = .ok (.aastore, 1) := dk_83 (dk_at dksX0_remembers_1 13 rfl rfl)
theorem dX0_remembers_38 : decode cX0_remembers 38 = .ok (.iinc 2 1, 3) := dk_132 2 1 (dk_at dksX0_remembers_1 14 rfl rfl)
theorem dX0_remembers_41 : decode cX0_remembers 41 = .ok (.goto (-23), 3) := dk_167 255 233 (dk_at dksX0_remembers_1 17 rfl rfl)
theorem dX0_remembers_44 : decode cX0_remembers 44 = .ok (.aload_n 0, 1) := dk_42 (dk_at dksX0_remembers_1 20 rfl rfl)
theorem dX0_remembers_45 : decode cX0_remembers 45 = .ok (.getfield 30, 3) := dk_180 0 30 (dk_at dksX0_remembers_1 21 rfl rfl)
theorem dX0_remembers_48 : decode cX0_remembers 48 = .ok (.iconst 5, 1) := dk_8 (dk_at dksX0_remembers_2 0 rfl rfl)
theorem dX0_remembers_49 : decode cX0_remembers 49 = .ok (.aload_n 1, 1) := dk_43 (dk_at dksX0_remembers_2 1 rfl rfl)
theorem dX0_remembers_50 : decode cX0_remembers 50 = .ok (.aastore, 1) := dk_83 (dk_at dksX0_remembers_2 2 rfl rfl)
theorem dX0_remembers_51 : decode cX0_remembers 51 = .ok (.aload_n 0, 1) := dk_42 (dk_at dksX0_remembers_2 3 rfl rfl)
theorem dX0_remembers_52 : decode cX0_remembers 52 = .ok (.dup, 1) := dk_89 (dk_at dksX0_remembers_2 4 rfl rfl)
theorem dX0_remembers_53 : decode cX0_remembers 53 = .ok (.getfield 144, 3) := dk_180 0 144 (dk_at dksX0_remembers_2 5 rfl rfl)
theorem dX0_remembers_56 : decode cX0_remembers 56 = .ok (.iconst 1, 1) := dk_4 (dk_at dksX0_remembers_2 8 rfl rfl)
theorem dX0_remembers_57 : decode cX0_remembers 57 = .ok (.isub, 1) := dk_100 (dk_at dksX0_remembers_2 9 rfl rfl)
theorem dX0_remembers_58 : decode cX0_remembers 58 = .ok (.putfield 144, 3) := dk_181 0 144 (dk_at dksX0_remembers_2 10 rfl rfl)
theorem dX0_remembers_61 : decode cX0_remembers 61 = .ok (.aload_n 0, 1) := dk_42 (dk_at dksX0_remembers_2 13 rfl rfl)
theorem dX0_remembers_62 : decode cX0_remembers 62 = .ok (.getfield 30, 3) := dk_180 0 30 (dk_at dksX0_remembers_2 14 rfl rfl)
theorem dX0_remembers_65 : decode cX0_remembers 65 = .ok (.aload_n 0, 1) := dk_42 (dk_at dksX0_remembers_2 17 rfl rfl)
theorem dX0_remembers_66 : decode cX0_remembers 66 = .ok (.getfield 144, 3) := dk_180 0 144 (dk_at dksX0_remembers_2 18 rfl rfl)
theorem dX0_remembers_69 : decode cX0_remembers 69 = .ok (.aaload, 1) := dk_50 (dk_at dksX0_remembers_2 21 rfl rfl)
theorem dX0_remembers_70 : decode cX0_remembers 70 = .ok (.aload_n 0, 1) := dk_42 (dk_at dksX0_remembers_2 22 rfl rfl)
theorem dX0_remembers_71 : decode cX0_remembers 71 = .ok (.getfield 20, 3) := dk_180 0 20 (dk_at dksX0_remembers_3 0 rfl rfl)
theorem dX0_remembers_74 : decode cX0_remembers 74 = .ok (.invokevirtual 147, 3) := dk_182 0 147 (dk_at dksX0_remembers_3 3 rfl rfl)
theorem dX0_remembers_77 : decode cX0_remembers 77 = .ok (.aload_n 0, 1) := dk_42 (dk_at dksX0_remembers_3 6 rfl rfl)
theorem dX0_remembers_78 : decode cX0_remembers 78 = .ok (.dup, 1) := dk_89 (dk_at dksX0_remembers_3 7 rfl rfl)
theorem dX0_remembers_79 : decode cX0_remembers 79 = .ok (.getfield 144, 3) := dk_180 0 144 (dk_at dksX0_remembers_3 8 rfl rfl)
theorem dX0_remembers_82 : decode cX0_remembers 82 = .ok (.iconst 1, 1) := dk_4 (dk_at dksX0_remembers_3 11 rfl rfl)
theorem dX0_remembers_83 : decode cX0_remembers 83 = .ok (.iadd, 1) := dk_96 (dk_at dksX0_remembers_3 12 rfl rfl)
theorem dX0_remembers_84 : decode cX0_remembers 84 = .ok (.putfield 144, 3) := dk_181 0 144 (dk_at dksX0_remembers_3 13 rfl rfl)
theorem dX0_remembers_87 : decode cX0_remembers 87 = .ok (.return_, 1) := dk_177 (dk_at dksX0_remembers_3 16 rfl rfl)
abbrev cX0_quarters : ByteArray := prog_1_method_21_code
def yX0_quarters : MethodName := ⟨RX0, "quarters", "(I)I"⟩
def dkwX0_quarters_2 : List UInt8 := [182, 0, 226, 96, 61, 132, 3, 1, 167, 255, 234, 28, 172]
abbrev dktX0_quarters_2 : List UInt8 := dkwX0_quarters_2 ++ []
def dkwX0_quarters_1 : List UInt8 := [164, 0, 5, 2, 172, 3, 61, 3, 62, 29, 27, 162, 0, 23, 42, 182, 0, 205, 28, 42, 180, 0, 20]
abbrev dktX0_quarters_1 : List UInt8 := dkwX0_quarters_1 ++ dktX0_quarters_2
def dkwX0_quarters_0 : List UInt8 := [27, 4, 16, 60, 184, 0, 81, 153, 0, 18, 42, 180, 0, 20, 180, 0, 223, 27, 96, 17, 39, 15]
abbrev dktX0_quarters_0 : List UInt8 := dkwX0_quarters_0 ++ dktX0_quarters_1
theorem dksX0_quarters_0 : cX0_quarters.data.toList.drop 0 = dktX0_quarters_0 := by decide +kernel
theorem dksX0_quarters_1 : cX0_quarters.data.toList.drop 22 = dktX0_quarters_1 := dk_seg dksX0_quarters_0 22 rfl rfl
theorem dksX0_quarters_2 : cX0_quarters.data.toList.drop 45 = dktX0_quarters_2 := dk_seg dksX0_quarters_1 23 rfl rfl
theorem dX0_quarters_0 : decode cX0_quarters 0 = .ok (.iload_n 1, 1) := dk_27 (dk_at dksX0_quarters_0 0 rfl rfl)
theorem dX0_quarters_1 : decode cX0_quarters 1 = .ok (.iconst 1, 1) := dk_4 (dk_at dksX0_quarters_0 1 rfl rfl)
theorem dX0_quarters_2 : decode cX0_quarters 2 = .ok (.bipush 60, 2) := dk_16 60 (dk_at dksX0_quarters_0 2 rfl rfl)
theorem dX0_quarters_4 : decode cX0_quarters 4 = .ok (.invokestatic 81, 3) := dk_184 0 81 (dk_at dksX0_quarters_0 4 rfl rfl)
theorem dX0_quarters_7 : decode cX0_quarters 7 = .ok (.ifCond .eq 18, 3) := dk_153 0 18 (dk_at dksX0_quarters_0 7 rfl rfl)
theorem dX0_quarters_10 : decode cX0_quarters 10 = .ok (.aload_n 0, 1) := dk_42 (dk_at dksX0_quarters_0 10 rfl rfl)
theorem dX0_quarters_11 : decode cX0_quarters 11 = .ok (.getfield 20, 3) := dk_180 0 20 (dk_at dksX0_quarters_0 11 rfl rfl)
theorem dX0_quarters_14 : decode cX0_quarters 14 = .ok (.getfield 223, 3) := dk_180 0 223 (dk_at dksX0_quarters_0 14 rfl rfl)
theorem dX0_quarters_17 : decode cX0_quarters 17 = .ok (.iload_n 1, 1) := dk_27 (dk_at dksX0_quarters_0 17 rfl rfl)
theorem dX0_quarters_18 : decode cX0_quarters 18 = .ok (.iadd, 1) := dk_96 (dk_at dksX0_quarters_0 18 rfl rfl)
theorem dX0_quarters_19 : decode cX0_quarters 19 = .ok (.sipush 9999, 3) := dk_17 39 15 (dk_at dksX0_quarters_0 19 rfl rfl)
theorem dX0_quarters_22 : decode cX0_quarters 22 = .ok (.if_icmp .le 5, 3) := dk_164 0 5 (dk_at dksX0_quarters_1 0 rfl rfl)
theorem dX0_quarters_25 : decode cX0_quarters 25 = .ok (.iconst (-1), 1) := dk_2 (dk_at dksX0_quarters_1 3 rfl rfl)
theorem dX0_quarters_26 : decode cX0_quarters 26 = .ok (.ireturn, 1) := dk_172 (dk_at dksX0_quarters_1 4 rfl rfl)
theorem dX0_quarters_27 : decode cX0_quarters 27 = .ok (.iconst 0, 1) := dk_3 (dk_at dksX0_quarters_1 5 rfl rfl)
theorem dX0_quarters_28 : decode cX0_quarters 28 = .ok (.istore_n 2, 1) := dk_61 (dk_at dksX0_quarters_1 6 rfl rfl)
theorem dX0_quarters_29 : decode cX0_quarters 29 = .ok (.iconst 0, 1) := dk_3 (dk_at dksX0_quarters_1 7 rfl rfl)
theorem dX0_quarters_30 : decode cX0_quarters 30 = .ok (.istore_n 3, 1) := dk_62 (dk_at dksX0_quarters_1 8 rfl rfl)
theorem dX0_quarters_31 : decode cX0_quarters 31 = .ok (.iload_n 3, 1) := dk_29 (dk_at dksX0_quarters_1 9 rfl rfl)
theorem dX0_quarters_32 : decode cX0_quarters 32 = .ok (.iload_n 1, 1) := dk_27 (dk_at dksX0_quarters_1 10 rfl rfl)
theorem dX0_quarters_33 : decode cX0_quarters 33 = .ok (.if_icmp .ge 23, 3) := dk_162 0 23 (dk_at dksX0_quarters_1 11 rfl rfl)
theorem dX0_quarters_36 : decode cX0_quarters 36 = .ok (.aload_n 0, 1) := dk_42 (dk_at dksX0_quarters_1 14 rfl rfl)
theorem dX0_quarters_37 : decode cX0_quarters 37 = .ok (.invokevirtual 205, 3) := dk_182 0 205 (dk_at dksX0_quarters_1 15 rfl rfl)
theorem dX0_quarters_40 : decode cX0_quarters 40 = .ok (.iload_n 2, 1) := dk_28 (dk_at dksX0_quarters_1 18 rfl rfl)
theorem dX0_quarters_41 : decode cX0_quarters 41 = .ok (.aload_n 0, 1) := dk_42 (dk_at dksX0_quarters_1 19 rfl rfl)
theorem dX0_quarters_42 : decode cX0_quarters 42 = .ok (.getfield 20, 3) := dk_180 0 20 (dk_at dksX0_quarters_1 20 rfl rfl)
theorem dX0_quarters_45 : decode cX0_quarters 45 = .ok (.invokevirtual 226, 3) := dk_182 0 226 (dk_at dksX0_quarters_2 0 rfl rfl)
theorem dX0_quarters_48 : decode cX0_quarters 48 = .ok (.iadd, 1) := dk_96 (dk_at dksX0_quarters_2 3 rfl rfl)
theorem dX0_quarters_49 : decode cX0_quarters 49 = .ok (.istore_n 2, 1) := dk_61 (dk_at dksX0_quarters_2 4 rfl rfl)
theorem dX0_quarters_50 : decode cX0_quarters 50 = .ok (.iinc 3 1, 3) := dk_132 3 1 (dk_at dksX0_quarters_2 5 rfl rfl)
theorem dX0_quarters_53 : decode cX0_quarters 53 = .ok (.goto (-22), 3) := dk_167 255 234 (dk_at dksX0_quarters_2 8 rfl rfl)
theorem dX0_quarters_56 : decode cX0_quarters 56 = .ok (.iload_n 2, 1) := dk_28 (dk_at dksX0_quarters_2 11 rfl rfl)
theorem dX0_quarters_57 : decode cX0_quarters 57 = .ok (.ireturn, 1) := dk_172 (dk_at dksX0_quarters_2 12 rfl rfl)
abbrev cX0_bound : ByteArray := prog_1_method_3_code
def yX0_bound : MethodName := ⟨RX0, "bound", "(III)I"⟩
def dkwX0_bound_0 : List UInt8 := [27, 28, 26, 184, 0, 65, 184, 0, 71, 172]
abbrev dktX0_bound_0 : List UInt8 := dkwX0_bound_0 ++ []
theorem dksX0_bound_0 : cX0_bound.data.toList.drop 0 = dktX0_bound_0 := by decide +kernel
theorem dX0_bound_0 : decode cX0_bound 0 = .ok (.iload_n 1, 1) := dk_27 (dk_at dksX0_bound_0 0 rfl rfl)
theorem dX0_bound_1 : decode cX0_bound 1 = .ok (.iload_n 2, 1) := dk_28 (dk_at dksX0_bound_0 1 rfl rfl)
theorem dX0_bound_2 : decode cX0_bound 2 = .ok (.iload_n 0, 1) := dk_26 (dk_at dksX0_bound_0 2 rfl rfl)
theorem dX0_bound_3 : decode cX0_bound 3 = .ok (.invokestatic 65, 3) := dk_184 0 65 (dk_at dksX0_bound_0 3 rfl rfl)
theorem dX0_bound_6 : decode cX0_bound 6 = .ok (.invokestatic 71, 3) := dk_184 0 71 (dk_at dksX0_bound_0 6 rfl rfl)
theorem dX0_bound_9 : decode cX0_bound 9 = .ok (.ireturn, 1) := dk_172 (dk_at dksX0_bound_0 9 rfl rfl)
abbrev cX0_of : ByteArray := prog_1_method_22_code
def yX0_of : MethodName := ⟨RX0, "of", "(II)I"⟩
def dkwX0_of_7 : List UInt8 := [172]
abbrev dktX0_of_7 : List UInt8 := dkwX0_of_7 ++ []
def dkwX0_of_6 : List UInt8 := [180, 0, 242, 172, 42, 180, 0, 20, 45, 182, 0, 245, 172, 42, 180, 0, 20, 180, 0, 120, 27, 46, 172, 2]
abbrev dktX0_of_6 : List UInt8 := dkwX0_of_6 ++ dktX0_of_7
def dkwX0_of_5 : List UInt8 := [180, 0, 187, 172, 45, 180, 0, 236, 172, 45, 180, 0, 239, 153, 0, 7, 4, 167, 0, 4, 3, 172, 45]
abbrev dktX0_of_5 : List UInt8 := dkwX0_of_5 ++ dktX0_of_6
def dkwX0_of_4 : List UInt8 := [45, 180, 0, 193, 28, 46, 172, 45, 180, 0, 178, 172, 45, 180, 0, 181, 172, 45, 180, 0, 184, 172, 45]
abbrev dktX0_of_4 : List UInt8 := dkwX0_of_4 ++ dktX0_of_5
def dkwX0_of_3 : List UInt8 := [170, 0, 0, 0, 0, 0, 136, 0, 0, 0, 0, 0, 0, 0, 12, 0, 0, 0, 67, 0, 0, 0, 67, 0, 0, 0, 67, 0, 0, 0, 67, 0, 0, 0, 74, 0, 0, 0, 79, 0, 0, 0, 84, 0, 0, 0, 89, 0, 0, 0, 94, 0, 0, 0, 99, 0, 0, 0, 112, 0, 0, 0, 117, 0, 0, 0, 126]
abbrev dktX0_of_3 : List UInt8 := dkwX0_of_3 ++ dktX0_of_4
def dkwX0_of_2 : List UInt8 := [153, 0, 16, 42, 180, 0, 20, 45, 28, 16, 30, 100, 182, 0, 233, 172, 28]
abbrev dktX0_of_2 : List UInt8 := dkwX0_of_2 ++ dktX0_of_3
def dkwX0_of_1 : List UInt8 := [153, 0, 16, 42, 180, 0, 20, 45, 28, 16, 20, 100, 182, 0, 229, 172, 28, 16, 30, 16, 33, 184, 0, 81]
abbrev dktX0_of_1 : List UInt8 := dkwX0_of_1 ++ dktX0_of_2
def dkwX0_of_0 : List UInt8 := [42, 27, 182, 0, 171, 154, 0, 5, 2, 172, 42, 27, 182, 0, 161, 78, 28, 16, 20, 16, 23, 184, 0, 81]
abbrev dktX0_of_0 : List UInt8 := dkwX0_of_0 ++ dktX0_of_1
theorem dksX0_of_0 : cX0_of.data.toList.drop 0 = dktX0_of_0 := by decide +kernel
theorem dksX0_of_1 : cX0_of.data.toList.drop 24 = dktX0_of_1 := dk_seg dksX0_of_0 24 rfl rfl
theorem dksX0_of_2 : cX0_of.data.toList.drop 48 = dktX0_of_2 := dk_seg dksX0_of_1 24 rfl rfl
theorem dksX0_of_3 : cX0_of.data.toList.drop 65 = dktX0_of_3 := dk_seg dksX0_of_2 17 rfl rfl
theorem dksX0_of_4 : cX0_of.data.toList.drop 132 = dktX0_of_4 := dk_seg dksX0_of_3 67 rfl rfl
theorem dksX0_of_5 : cX0_of.data.toList.drop 155 = dktX0_of_5 := dk_seg dksX0_of_4 23 rfl rfl
theorem dksX0_of_6 : cX0_of.data.toList.drop 178 = dktX0_of_6 := dk_seg dksX0_of_5 23 rfl rfl
theorem dksX0_of_7 : cX0_of.data.toList.drop 202 = dktX0_of_7 := dk_seg dksX0_of_6 24 rfl rfl
theorem dX0_of_0 : decode cX0_of 0 = .ok (.aload_n 0, 1) := dk_42 (dk_at dksX0_of_0 0 rfl rfl)
theorem dX0_of_1 : decode cX0_of 1 = .ok (.iload_n 1, 1) := dk_27 (dk_at dksX0_of_0 1 rfl rfl)
theorem dX0_of_2 : decode cX0_of 2 = .ok (.invokevirtual 171, 3) := dk_182 0 171 (dk_at dksX0_of_0 2 rfl rfl)
theorem dX0_of_5 : decode cX0_of 5 = .ok (.ifCond .ne 5, 3) := dk_154 0 5 (dk_at dksX0_of_0 5 rfl rfl)
theorem dX0_of_8 : decode cX0_of 8 = .ok (.iconst (-1), 1) := dk_2 (dk_at dksX0_of_0 8 rfl rfl)
theorem dX0_of_9 : decode cX0_of 9 = .ok (.ireturn, 1) := dk_172 (dk_at dksX0_of_0 9 rfl rfl)
theorem dX0_of_10 : decode cX0_of 10 = .ok (.aload_n 0, 1) := dk_42 (dk_at dksX0_of_0 10 rfl rfl)
theorem dX0_of_11 : decode cX0_of 11 = .ok (.iload_n 1, 1) := dk_27 (dk_at dksX0_of_0 11 rfl rfl)
theorem dX0_of_12 : decode cX0_of 12 = .ok (.invokevirtual 161, 3) := dk_182 0 161 (dk_at dksX0_of_0 12 rfl rfl)
theorem dX0_of_15 : decode cX0_of 15 = .ok (.astore_n 3, 1) := dk_78 (dk_at dksX0_of_0 15 rfl rfl)
theorem dX0_of_16 : decode cX0_of 16 = .ok (.iload_n 2, 1) := dk_28 (dk_at dksX0_of_0 16 rfl rfl)
theorem dX0_of_17 : decode cX0_of 17 = .ok (.bipush 20, 2) := dk_16 20 (dk_at dksX0_of_0 17 rfl rfl)
theorem dX0_of_19 : decode cX0_of 19 = .ok (.bipush 23, 2) := dk_16 23 (dk_at dksX0_of_0 19 rfl rfl)
theorem dX0_of_21 : decode cX0_of 21 = .ok (.invokestatic 81, 3) := dk_184 0 81 (dk_at dksX0_of_0 21 rfl rfl)
theorem dX0_of_24 : decode cX0_of 24 = .ok (.ifCond .eq 16, 3) := dk_153 0 16 (dk_at dksX0_of_1 0 rfl rfl)
theorem dX0_of_27 : decode cX0_of 27 = .ok (.aload_n 0, 1) := dk_42 (dk_at dksX0_of_1 3 rfl rfl)
theorem dX0_of_28 : decode cX0_of 28 = .ok (.getfield 20, 3) := dk_180 0 20 (dk_at dksX0_of_1 4 rfl rfl)
theorem dX0_of_31 : decode cX0_of 31 = .ok (.aload_n 3, 1) := dk_45 (dk_at dksX0_of_1 7 rfl rfl)
theorem dX0_of_32 : decode cX0_of 32 = .ok (.iload_n 2, 1) := dk_28 (dk_at dksX0_of_1 8 rfl rfl)
theorem dX0_of_33 : decode cX0_of 33 = .ok (.bipush 20, 2) := dk_16 20 (dk_at dksX0_of_1 9 rfl rfl)
theorem dX0_of_35 : decode cX0_of 35 = .ok (.isub, 1) := dk_100 (dk_at dksX0_of_1 11 rfl rfl)
theorem dX0_of_36 : decode cX0_of 36 = .ok (.invokevirtual 229, 3) := dk_182 0 229 (dk_at dksX0_of_1 12 rfl rfl)
theorem dX0_of_39 : decode cX0_of 39 = .ok (.ireturn, 1) := dk_172 (dk_at dksX0_of_1 15 rfl rfl)
theorem dX0_of_40 : decode cX0_of 40 = .ok (.iload_n 2, 1) := dk_28 (dk_at dksX0_of_1 16 rfl rfl)
theorem dX0_of_41 : decode cX0_of 41 = .ok (.bipush 30, 2) := dk_16 30 (dk_at dksX0_of_1 17 rfl rfl)
theorem dX0_of_43 : decode cX0_of 43 = .ok (.bipush 33, 2) := dk_16 33 (dk_at dksX0_of_1 19 rfl rfl)
theorem dX0_of_45 : decode cX0_of 45 = .ok (.invokestatic 81, 3) := dk_184 0 81 (dk_at dksX0_of_1 21 rfl rfl)
theorem dX0_of_48 : decode cX0_of 48 = .ok (.ifCond .eq 16, 3) := dk_153 0 16 (dk_at dksX0_of_2 0 rfl rfl)
theorem dX0_of_51 : decode cX0_of 51 = .ok (.aload_n 0, 1) := dk_42 (dk_at dksX0_of_2 3 rfl rfl)
theorem dX0_of_52 : decode cX0_of 52 = .ok (.getfield 20, 3) := dk_180 0 20 (dk_at dksX0_of_2 4 rfl rfl)
theorem dX0_of_55 : decode cX0_of 55 = .ok (.aload_n 3, 1) := dk_45 (dk_at dksX0_of_2 7 rfl rfl)
theorem dX0_of_56 : decode cX0_of 56 = .ok (.iload_n 2, 1) := dk_28 (dk_at dksX0_of_2 8 rfl rfl)
theorem dX0_of_57 : decode cX0_of 57 = .ok (.bipush 30, 2) := dk_16 30 (dk_at dksX0_of_2 9 rfl rfl)
theorem dX0_of_59 : decode cX0_of 59 = .ok (.isub, 1) := dk_100 (dk_at dksX0_of_2 11 rfl rfl)
theorem dX0_of_60 : decode cX0_of 60 = .ok (.invokevirtual 233, 3) := dk_182 0 233 (dk_at dksX0_of_2 12 rfl rfl)
theorem dX0_of_63 : decode cX0_of 63 = .ok (.ireturn, 1) := dk_172 (dk_at dksX0_of_2 15 rfl rfl)
theorem dX0_of_64 : decode cX0_of 64 = .ok (.iload_n 2, 1) := dk_28 (dk_at dksX0_of_2 16 rfl rfl)
theorem dX0_of_65 : decode cX0_of 65 = .ok (.tableswitch 136 0 12 #[67, 67, 67, 67, 74, 79, 84, 89, 94, 99, 112, 117, 126], 67) := by decide +kernel
theorem dX0_of_132 : decode cX0_of 132 = .ok (.aload_n 3, 1) := dk_45 (dk_at dksX0_of_4 0 rfl rfl)
theorem dX0_of_133 : decode cX0_of 133 = .ok (.getfield 193, 3) := dk_180 0 193 (dk_at dksX0_of_4 1 rfl rfl)
theorem dX0_of_136 : decode cX0_of 136 = .ok (.iload_n 2, 1) := dk_28 (dk_at dksX0_of_4 4 rfl rfl)
theorem dX0_of_137 : decode cX0_of 137 = .ok (.iaload, 1) := dk_46 (dk_at dksX0_of_4 5 rfl rfl)
theorem dX0_of_138 : decode cX0_of 138 = .ok (.ireturn, 1) := dk_172 (dk_at dksX0_of_4 6 rfl rfl)
theorem dX0_of_139 : decode cX0_of 139 = .ok (.aload_n 3, 1) := dk_45 (dk_at dksX0_of_4 7 rfl rfl)
theorem dX0_of_140 : decode cX0_of 140 = .ok (.getfield 178, 3) := dk_180 0 178 (dk_at dksX0_of_4 8 rfl rfl)
theorem dX0_of_143 : decode cX0_of 143 = .ok (.ireturn, 1) := dk_172 (dk_at dksX0_of_4 11 rfl rfl)
theorem dX0_of_144 : decode cX0_of 144 = .ok (.aload_n 3, 1) := dk_45 (dk_at dksX0_of_4 12 rfl rfl)
theorem dX0_of_145 : decode cX0_of 145 = .ok (.getfield 181, 3) := dk_180 0 181 (dk_at dksX0_of_4 13 rfl rfl)
theorem dX0_of_148 : decode cX0_of 148 = .ok (.ireturn, 1) := dk_172 (dk_at dksX0_of_4 16 rfl rfl)
theorem dX0_of_149 : decode cX0_of 149 = .ok (.aload_n 3, 1) := dk_45 (dk_at dksX0_of_4 17 rfl rfl)
theorem dX0_of_150 : decode cX0_of 150 = .ok (.getfield 184, 3) := dk_180 0 184 (dk_at dksX0_of_4 18 rfl rfl)
theorem dX0_of_153 : decode cX0_of 153 = .ok (.ireturn, 1) := dk_172 (dk_at dksX0_of_4 21 rfl rfl)
theorem dX0_of_154 : decode cX0_of 154 = .ok (.aload_n 3, 1) := dk_45 (dk_at dksX0_of_4 22 rfl rfl)
theorem dX0_of_155 : decode cX0_of 155 = .ok (.getfield 187, 3) := dk_180 0 187 (dk_at dksX0_of_5 0 rfl rfl)
theorem dX0_of_158 : decode cX0_of 158 = .ok (.ireturn, 1) := dk_172 (dk_at dksX0_of_5 3 rfl rfl)
theorem dX0_of_159 : decode cX0_of 159 = .ok (.aload_n 3, 1) := dk_45 (dk_at dksX0_of_5 4 rfl rfl)
theorem dX0_of_160 : decode cX0_of 160 = .ok (.getfield 236, 3) := dk_180 0 236 (dk_at dksX0_of_5 5 rfl rfl)
theorem dX0_of_163 : decode cX0_of 163 = .ok (.ireturn, 1) := dk_172 (dk_at dksX0_of_5 8 rfl rfl)
theorem dX0_of_164 : decode cX0_of 164 = .ok (.aload_n 3, 1) := dk_45 (dk_at dksX0_of_5 9 rfl rfl)
theorem dX0_of_165 : decode cX0_of 165 = .ok (.getfield 239, 3) := dk_180 0 239 (dk_at dksX0_of_5 10 rfl rfl)
theorem dX0_of_168 : decode cX0_of 168 = .ok (.ifCond .eq 7, 3) := dk_153 0 7 (dk_at dksX0_of_5 13 rfl rfl)
theorem dX0_of_171 : decode cX0_of 171 = .ok (.iconst 1, 1) := dk_4 (dk_at dksX0_of_5 16 rfl rfl)
theorem dX0_of_172 : decode cX0_of 172 = .ok (.goto 4, 3) := dk_167 0 4 (dk_at dksX0_of_5 17 rfl rfl)
theorem dX0_of_175 : decode cX0_of 175 = .ok (.iconst 0, 1) := dk_3 (dk_at dksX0_of_5 20 rfl rfl)
theorem dX0_of_176 : decode cX0_of 176 = .ok (.ireturn, 1) := dk_172 (dk_at dksX0_of_5 21 rfl rfl)
theorem dX0_of_177 : decode cX0_of 177 = .ok (.aload_n 3, 1) := dk_45 (dk_at dksX0_of_5 22 rfl rfl)
theorem dX0_of_178 : decode cX0_of 178 = .ok (.getfield 242, 3) := dk_180 0 242 (dk_at dksX0_of_6 0 rfl rfl)
theorem dX0_of_181 : decode cX0_of 181 = .ok (.ireturn, 1) := dk_172 (dk_at dksX0_of_6 3 rfl rfl)
theorem dX0_of_182 : decode cX0_of 182 = .ok (.aload_n 0, 1) := dk_42 (dk_at dksX0_of_6 4 rfl rfl)
theorem dX0_of_183 : decode cX0_of 183 = .ok (.getfield 20, 3) := dk_180 0 20 (dk_at dksX0_of_6 5 rfl rfl)
theorem dX0_of_186 : decode cX0_of 186 = .ok (.aload_n 3, 1) := dk_45 (dk_at dksX0_of_6 8 rfl rfl)
theorem dX0_of_187 : decode cX0_of 187 = .ok (.invokevirtual 245, 3) := dk_182 0 245 (dk_at dksX0_of_6 9 rfl rfl)
theorem dX0_of_190 : decode cX0_of 190 = .ok (.ireturn, 1) := dk_172 (dk_at dksX0_of_6 12 rfl rfl)
theorem dX0_of_191 : decode cX0_of 191 = .ok (.aload_n 0, 1) := dk_42 (dk_at dksX0_of_6 13 rfl rfl)
theorem dX0_of_192 : decode cX0_of 192 = .ok (.getfield 20, 3) := dk_180 0 20 (dk_at dksX0_of_6 14 rfl rfl)
theorem dX0_of_195 : decode cX0_of 195 = .ok (.getfield 120, 3) := dk_180 0 120 (dk_at dksX0_of_6 17 rfl rfl)
theorem dX0_of_198 : decode cX0_of 198 = .ok (.iload_n 1, 1) := dk_27 (dk_at dksX0_of_6 20 rfl rfl)
theorem dX0_of_199 : decode cX0_of 199 = .ok (.iaload, 1) := dk_46 (dk_at dksX0_of_6 21 rfl rfl)
theorem dX0_of_200 : decode cX0_of 200 = .ok (.ireturn, 1) := dk_172 (dk_at dksX0_of_6 22 rfl rfl)
theorem dX0_of_201 : decode cX0_of 201 = .ok (.iconst (-1), 1) := dk_2 (dk_at dksX0_of_6 23 rfl rfl)
theorem dX0_of_202 : decode cX0_of 202 = .ok (.ireturn, 1) := dk_172 (dk_at dksX0_of_7 0 rfl rfl)
abbrev cX0_book : ByteArray := prog_1_method_23_code
def yX0_book : MethodName := ⟨RX0, "book", "(II)I"⟩
def dkwX0_book_1 : List UInt8 := [153, 0, 17, 42, 180, 0, 20, 180, 0, 252, 27, 50, 28, 46, 167, 0, 5, 16, 254, 172]
abbrev dktX0_book_1 : List UInt8 := dkwX0_book_1 ++ []
def dkwX0_book_0 : List UInt8 := [27, 3, 42, 180, 0, 20, 180, 0, 249, 4, 100, 184, 0, 81, 153, 0, 26, 28, 3, 6, 184, 0, 81]
abbrev dktX0_book_0 : List UInt8 := dkwX0_book_0 ++ dktX0_book_1
theorem dksX0_book_0 : cX0_book.data.toList.drop 0 = dktX0_book_0 := by decide +kernel
theorem dksX0_book_1 : cX0_book.data.toList.drop 23 = dktX0_book_1 := dk_seg dksX0_book_0 23 rfl rfl
theorem dX0_book_0 : decode cX0_book 0 = .ok (.iload_n 1, 1) := dk_27 (dk_at dksX0_book_0 0 rfl rfl)
theorem dX0_book_1 : decode cX0_book 1 = .ok (.iconst 0, 1) := dk_3 (dk_at dksX0_book_0 1 rfl rfl)
theorem dX0_book_2 : decode cX0_book 2 = .ok (.aload_n 0, 1) := dk_42 (dk_at dksX0_book_0 2 rfl rfl)
theorem dX0_book_3 : decode cX0_book 3 = .ok (.getfield 20, 3) := dk_180 0 20 (dk_at dksX0_book_0 3 rfl rfl)
theorem dX0_book_6 : decode cX0_book 6 = .ok (.getfield 249, 3) := dk_180 0 249 (dk_at dksX0_book_0 6 rfl rfl)
theorem dX0_book_9 : decode cX0_book 9 = .ok (.iconst 1, 1) := dk_4 (dk_at dksX0_book_0 9 rfl rfl)
theorem dX0_book_10 : decode cX0_book 10 = .ok (.isub, 1) := dk_100 (dk_at dksX0_book_0 10 rfl rfl)
theorem dX0_book_11 : decode cX0_book 11 = .ok (.invokestatic 81, 3) := dk_184 0 81 (dk_at dksX0_book_0 11 rfl rfl)
theorem dX0_book_14 : decode cX0_book 14 = .ok (.ifCond .eq 26, 3) := dk_153 0 26 (dk_at dksX0_book_0 14 rfl rfl)
theorem dX0_book_17 : decode cX0_book 17 = .ok (.iload_n 2, 1) := dk_28 (dk_at dksX0_book_0 17 rfl rfl)
theorem dX0_book_18 : decode cX0_book 18 = .ok (.iconst 0, 1) := dk_3 (dk_at dksX0_book_0 18 rfl rfl)
theorem dX0_book_19 : decode cX0_book 19 = .ok (.iconst 3, 1) := dk_6 (dk_at dksX0_book_0 19 rfl rfl)
theorem dX0_book_20 : decode cX0_book 20 = .ok (.invokestatic 81, 3) := dk_184 0 81 (dk_at dksX0_book_0 20 rfl rfl)
theorem dX0_book_23 : decode cX0_book 23 = .ok (.ifCond .eq 17, 3) := dk_153 0 17 (dk_at dksX0_book_1 0 rfl rfl)
theorem dX0_book_26 : decode cX0_book 26 = .ok (.aload_n 0, 1) := dk_42 (dk_at dksX0_book_1 3 rfl rfl)
theorem dX0_book_27 : decode cX0_book 27 = .ok (.getfield 20, 3) := dk_180 0 20 (dk_at dksX0_book_1 4 rfl rfl)
theorem dX0_book_30 : decode cX0_book 30 = .ok (.getfield 252, 3) := dk_180 0 252 (dk_at dksX0_book_1 7 rfl rfl)
theorem dX0_book_33 : decode cX0_book 33 = .ok (.iload_n 1, 1) := dk_27 (dk_at dksX0_book_1 10 rfl rfl)
theorem dX0_book_34 : decode cX0_book 34 = .ok (.aaload, 1) := dk_50 (dk_at dksX0_book_1 11 rfl rfl)
theorem dX0_book_35 : decode cX0_book 35 = .ok (.iload_n 2, 1) := dk_28 (dk_at dksX0_book_1 12 rfl rfl)
theorem dX0_book_36 : decode cX0_book 36 = .ok (.iaload, 1) := dk_46 (dk_at dksX0_book_1 13 rfl rfl)
theorem dX0_book_37 : decode cX0_book 37 = .ok (.goto 5, 3) := dk_167 0 5 (dk_at dksX0_book_1 14 rfl rfl)
theorem dX0_book_40 : decode cX0_book 40 = .ok (.bipush (-2), 2) := dk_16 254 (dk_at dksX0_book_1 17 rfl rfl)
theorem dX0_book_42 : decode cX0_book 42 = .ok (.ireturn, 1) := dk_172 (dk_at dksX0_book_1 19 rfl rfl)
abbrev cX0_goes : ByteArray := prog_1_method_24_code
def yX0_goes : MethodName := ⟨RX0, "goes", "(II)I"⟩
def dkwX0_goes_6 : List UInt8 := [132, 4, 1, 167, 255, 204, 29, 172]
abbrev dktX0_goes_6 : List UInt8 := dkwX0_goes_6 ++ []
def dkwX0_goes_5 : List UInt8 := [50, 180, 0, 236, 167, 0, 16, 42, 180, 0, 27, 180, 0, 154, 21, 4, 50, 180, 0, 187, 96, 62]
abbrev dktX0_goes_5 : List UInt8 := dkwX0_goes_5 ++ dktX0_goes_6
def dkwX0_goes_4 : List UInt8 := [180, 0, 27, 180, 0, 151, 162, 0, 46, 29, 28, 5, 160, 0, 19, 42, 180, 0, 27, 180, 0, 154, 21, 4]
abbrev dktX0_goes_4 : List UInt8 := dkwX0_goes_4 ++ dktX0_goes_5
def dkwX0_goes_3 : List UInt8 := [167, 0, 13, 42, 180, 0, 27, 182, 1, 5, 184, 1, 8, 172, 3, 62, 3, 54, 4, 21, 4, 42]
abbrev dktX0_goes_3 : List UInt8 := dkwX0_goes_3 ++ dktX0_goes_4
def dkwX0_goes_2 : List UInt8 := [87, 132, 3, 1, 167, 255, 240, 28, 5, 162, 0, 28, 28, 154, 0, 13, 42, 180, 0, 27, 180, 1, 2]
abbrev dktX0_goes_2 : List UInt8 := dkwX0_goes_2 ++ dktX0_goes_3
def dkwX0_goes_1 : List UInt8 := [180, 0, 27, 42, 180, 0, 20, 182, 0, 255, 3, 62, 29, 27, 162, 0, 17, 42, 180, 0, 27, 182, 0, 226]
abbrev dktX0_goes_1 : List UInt8 := dkwX0_goes_1 ++ dktX0_goes_2
def dkwX0_goes_0 : List UInt8 := [27, 4, 16, 60, 184, 0, 81, 153, 0, 12, 28, 3, 6, 184, 0, 81, 154, 0, 5, 2, 172, 42]
abbrev dktX0_goes_0 : List UInt8 := dkwX0_goes_0 ++ dktX0_goes_1
theorem dksX0_goes_0 : cX0_goes.data.toList.drop 0 = dktX0_goes_0 := by decide +kernel
theorem dksX0_goes_1 : cX0_goes.data.toList.drop 22 = dktX0_goes_1 := dk_seg dksX0_goes_0 22 rfl rfl
theorem dksX0_goes_2 : cX0_goes.data.toList.drop 46 = dktX0_goes_2 := dk_seg dksX0_goes_1 24 rfl rfl
theorem dksX0_goes_3 : cX0_goes.data.toList.drop 69 = dktX0_goes_3 := dk_seg dksX0_goes_2 23 rfl rfl
theorem dksX0_goes_4 : cX0_goes.data.toList.drop 91 = dktX0_goes_4 := dk_seg dksX0_goes_3 22 rfl rfl
theorem dksX0_goes_5 : cX0_goes.data.toList.drop 115 = dktX0_goes_5 := dk_seg dksX0_goes_4 24 rfl rfl
theorem dksX0_goes_6 : cX0_goes.data.toList.drop 137 = dktX0_goes_6 := dk_seg dksX0_goes_5 22 rfl rfl
theorem dX0_goes_0 : decode cX0_goes 0 = .ok (.iload_n 1, 1) := dk_27 (dk_at dksX0_goes_0 0 rfl rfl)
theorem dX0_goes_1 : decode cX0_goes 1 = .ok (.iconst 1, 1) := dk_4 (dk_at dksX0_goes_0 1 rfl rfl)
theorem dX0_goes_2 : decode cX0_goes 2 = .ok (.bipush 60, 2) := dk_16 60 (dk_at dksX0_goes_0 2 rfl rfl)
theorem dX0_goes_4 : decode cX0_goes 4 = .ok (.invokestatic 81, 3) := dk_184 0 81 (dk_at dksX0_goes_0 4 rfl rfl)
theorem dX0_goes_7 : decode cX0_goes 7 = .ok (.ifCond .eq 12, 3) := dk_153 0 12 (dk_at dksX0_goes_0 7 rfl rfl)
theorem dX0_goes_10 : decode cX0_goes 10 = .ok (.iload_n 2, 1) := dk_28 (dk_at dksX0_goes_0 10 rfl rfl)
theorem dX0_goes_11 : decode cX0_goes 11 = .ok (.iconst 0, 1) := dk_3 (dk_at dksX0_goes_0 11 rfl rfl)
theorem dX0_goes_12 : decode cX0_goes 12 = .ok (.iconst 3, 1) := dk_6 (dk_at dksX0_goes_0 12 rfl rfl)
theorem dX0_goes_13 : decode cX0_goes 13 = .ok (.invokestatic 81, 3) := dk_184 0 81 (dk_at dksX0_goes_0 13 rfl rfl)
theorem dX0_goes_16 : decode cX0_goes 16 = .ok (.ifCond .ne 5, 3) := dk_154 0 5 (dk_at dksX0_goes_0 16 rfl rfl)
theorem dX0_goes_19 : decode cX0_goes 19 = .ok (.iconst (-1), 1) := dk_2 (dk_at dksX0_goes_0 19 rfl rfl)
theorem dX0_goes_20 : decode cX0_goes 20 = .ok (.ireturn, 1) := dk_172 (dk_at dksX0_goes_0 20 rfl rfl)
theorem dX0_goes_21 : decode cX0_goes 21 = .ok (.aload_n 0, 1) := dk_42 (dk_at dksX0_goes_0 21 rfl rfl)
theorem dX0_goes_22 : decode cX0_goes 22 = .ok (.getfield 27, 3) := dk_180 0 27 (dk_at dksX0_goes_1 0 rfl rfl)
theorem dX0_goes_25 : decode cX0_goes 25 = .ok (.aload_n 0, 1) := dk_42 (dk_at dksX0_goes_1 3 rfl rfl)
theorem dX0_goes_26 : decode cX0_goes 26 = .ok (.getfield 20, 3) := dk_180 0 20 (dk_at dksX0_goes_1 4 rfl rfl)
theorem dX0_goes_29 : decode cX0_goes 29 = .ok (.invokevirtual 255, 3) := dk_182 0 255 (dk_at dksX0_goes_1 7 rfl rfl)
theorem dX0_goes_32 : decode cX0_goes 32 = .ok (.iconst 0, 1) := dk_3 (dk_at dksX0_goes_1 10 rfl rfl)
theorem dX0_goes_33 : decode cX0_goes 33 = .ok (.istore_n 3, 1) := dk_62 (dk_at dksX0_goes_1 11 rfl rfl)
theorem dX0_goes_34 : decode cX0_goes 34 = .ok (.iload_n 3, 1) := dk_29 (dk_at dksX0_goes_1 12 rfl rfl)
theorem dX0_goes_35 : decode cX0_goes 35 = .ok (.iload_n 1, 1) := dk_27 (dk_at dksX0_goes_1 13 rfl rfl)
theorem dX0_goes_36 : decode cX0_goes 36 = .ok (.if_icmp .ge 17, 3) := dk_162 0 17 (dk_at dksX0_goes_1 14 rfl rfl)
theorem dX0_goes_39 : decode cX0_goes 39 = .ok (.aload_n 0, 1) := dk_42 (dk_at dksX0_goes_1 17 rfl rfl)
theorem dX0_goes_40 : decode cX0_goes 40 = .ok (.getfield 27, 3) := dk_180 0 27 (dk_at dksX0_goes_1 18 rfl rfl)
theorem dX0_goes_43 : decode cX0_goes 43 = .ok (.invokevirtual 226, 3) := dk_182 0 226 (dk_at dksX0_goes_1 21 rfl rfl)
theorem dX0_goes_46 : decode cX0_goes 46 = .ok (.pop, 1) := dk_87 (dk_at dksX0_goes_2 0 rfl rfl)
theorem dX0_goes_47 : decode cX0_goes 47 = .ok (.iinc 3 1, 3) := dk_132 3 1 (dk_at dksX0_goes_2 1 rfl rfl)
theorem dX0_goes_50 : decode cX0_goes 50 = .ok (.goto (-16), 3) := dk_167 255 240 (dk_at dksX0_goes_2 4 rfl rfl)
theorem dX0_goes_53 : decode cX0_goes 53 = .ok (.iload_n 2, 1) := dk_28 (dk_at dksX0_goes_2 7 rfl rfl)
theorem dX0_goes_54 : decode cX0_goes 54 = .ok (.iconst 2, 1) := dk_5 (dk_at dksX0_goes_2 8 rfl rfl)
theorem dX0_goes_55 : decode cX0_goes 55 = .ok (.if_icmp .ge 28, 3) := dk_162 0 28 (dk_at dksX0_goes_2 9 rfl rfl)
theorem dX0_goes_58 : decode cX0_goes 58 = .ok (.iload_n 2, 1) := dk_28 (dk_at dksX0_goes_2 12 rfl rfl)
theorem dX0_goes_59 : decode cX0_goes 59 = .ok (.ifCond .ne 13, 3) := dk_154 0 13 (dk_at dksX0_goes_2 13 rfl rfl)
theorem dX0_goes_62 : decode cX0_goes 62 = .ok (.aload_n 0, 1) := dk_42 (dk_at dksX0_goes_2 16 rfl rfl)
theorem dX0_goes_63 : decode cX0_goes 63 = .ok (.getfield 27, 3) := dk_180 0 27 (dk_at dksX0_goes_2 17 rfl rfl)
theorem dX0_goes_66 : decode cX0_goes 66 = .ok (.getfield 258, 3) := dk_180 1 2 (dk_at dksX0_goes_2 20 rfl rfl)
theorem dX0_goes_69 : decode cX0_goes 69 = .ok (.goto 13, 3) := dk_167 0 13 (dk_at dksX0_goes_3 0 rfl rfl)
theorem dX0_goes_72 : decode cX0_goes 72 = .ok (.aload_n 0, 1) := dk_42 (dk_at dksX0_goes_3 3 rfl rfl)
theorem dX0_goes_73 : decode cX0_goes 73 = .ok (.getfield 27, 3) := dk_180 0 27 (dk_at dksX0_goes_3 4 rfl rfl)
theorem dX0_goes_76 : decode cX0_goes 76 = .ok (.invokevirtual 261, 3) := dk_182 1 5 (dk_at dksX0_goes_3 7 rfl rfl)
theorem dX0_goes_79 : decode cX0_goes 79 = .ok (.invokestatic 264, 3) := dk_184 1 8 (dk_at dksX0_goes_3 10 rfl rfl)
theorem dX0_goes_82 : decode cX0_goes 82 = .ok (.ireturn, 1) := dk_172 (dk_at dksX0_goes_3 13 rfl rfl)
theorem dX0_goes_83 : decode cX0_goes 83 = .ok (.iconst 0, 1) := dk_3 (dk_at dksX0_goes_3 14 rfl rfl)
theorem dX0_goes_84 : decode cX0_goes 84 = .ok (.istore_n 3, 1) := dk_62 (dk_at dksX0_goes_3 15 rfl rfl)
theorem dX0_goes_85 : decode cX0_goes 85 = .ok (.iconst 0, 1) := dk_3 (dk_at dksX0_goes_3 16 rfl rfl)
theorem dX0_goes_86 : decode cX0_goes 86 = .ok (.istore 4, 2) := dk_54 4 (dk_at dksX0_goes_3 17 rfl rfl)
theorem dX0_goes_88 : decode cX0_goes 88 = .ok (.iload 4, 2) := dk_21 4 (dk_at dksX0_goes_3 19 rfl rfl)
theorem dX0_goes_90 : decode cX0_goes 90 = .ok (.aload_n 0, 1) := dk_42 (dk_at dksX0_goes_3 21 rfl rfl)
theorem dX0_goes_91 : decode cX0_goes 91 = .ok (.getfield 27, 3) := dk_180 0 27 (dk_at dksX0_goes_4 0 rfl rfl)
theorem dX0_goes_94 : decode cX0_goes 94 = .ok (.getfield 151, 3) := dk_180 0 151 (dk_at dksX0_goes_4 3 rfl rfl)
theorem dX0_goes_97 : decode cX0_goes 97 = .ok (.if_icmp .ge 46, 3) := dk_162 0 46 (dk_at dksX0_goes_4 6 rfl rfl)
theorem dX0_goes_100 : decode cX0_goes 100 = .ok (.iload_n 3, 1) := dk_29 (dk_at dksX0_goes_4 9 rfl rfl)
theorem dX0_goes_101 : decode cX0_goes 101 = .ok (.iload_n 2, 1) := dk_28 (dk_at dksX0_goes_4 10 rfl rfl)
theorem dX0_goes_102 : decode cX0_goes 102 = .ok (.iconst 2, 1) := dk_5 (dk_at dksX0_goes_4 11 rfl rfl)
theorem dX0_goes_103 : decode cX0_goes 103 = .ok (.if_icmp .ne 19, 3) := dk_160 0 19 (dk_at dksX0_goes_4 12 rfl rfl)
theorem dX0_goes_106 : decode cX0_goes 106 = .ok (.aload_n 0, 1) := dk_42 (dk_at dksX0_goes_4 15 rfl rfl)
theorem dX0_goes_107 : decode cX0_goes 107 = .ok (.getfield 27, 3) := dk_180 0 27 (dk_at dksX0_goes_4 16 rfl rfl)
theorem dX0_goes_110 : decode cX0_goes 110 = .ok (.getfield 154, 3) := dk_180 0 154 (dk_at dksX0_goes_4 19 rfl rfl)
theorem dX0_goes_113 : decode cX0_goes 113 = .ok (.iload 4, 2) := dk_21 4 (dk_at dksX0_goes_4 22 rfl rfl)
theorem dX0_goes_115 : decode cX0_goes 115 = .ok (.aaload, 1) := dk_50 (dk_at dksX0_goes_5 0 rfl rfl)
theorem dX0_goes_116 : decode cX0_goes 116 = .ok (.getfield 236, 3) := dk_180 0 236 (dk_at dksX0_goes_5 1 rfl rfl)
theorem dX0_goes_119 : decode cX0_goes 119 = .ok (.goto 16, 3) := dk_167 0 16 (dk_at dksX0_goes_5 4 rfl rfl)
theorem dX0_goes_122 : decode cX0_goes 122 = .ok (.aload_n 0, 1) := dk_42 (dk_at dksX0_goes_5 7 rfl rfl)
theorem dX0_goes_123 : decode cX0_goes 123 = .ok (.getfield 27, 3) := dk_180 0 27 (dk_at dksX0_goes_5 8 rfl rfl)
theorem dX0_goes_126 : decode cX0_goes 126 = .ok (.getfield 154, 3) := dk_180 0 154 (dk_at dksX0_goes_5 11 rfl rfl)
theorem dX0_goes_129 : decode cX0_goes 129 = .ok (.iload 4, 2) := dk_21 4 (dk_at dksX0_goes_5 14 rfl rfl)
theorem dX0_goes_131 : decode cX0_goes 131 = .ok (.aaload, 1) := dk_50 (dk_at dksX0_goes_5 16 rfl rfl)
theorem dX0_goes_132 : decode cX0_goes 132 = .ok (.getfield 187, 3) := dk_180 0 187 (dk_at dksX0_goes_5 17 rfl rfl)
theorem dX0_goes_135 : decode cX0_goes 135 = .ok (.iadd, 1) := dk_96 (dk_at dksX0_goes_5 20 rfl rfl)
theorem dX0_goes_136 : decode cX0_goes 136 = .ok (.istore_n 3, 1) := dk_62 (dk_at dksX0_goes_5 21 rfl rfl)
theorem dX0_goes_137 : decode cX0_goes 137 = .ok (.iinc 4 1, 3) := dk_132 4 1 (dk_at dksX0_goes_6 0 rfl rfl)
theorem dX0_goes_140 : decode cX0_goes 140 = .ok (.goto (-52), 3) := dk_167 255 204 (dk_at dksX0_goes_6 3 rfl rfl)
theorem dX0_goes_143 : decode cX0_goes 143 = .ok (.iload_n 3, 1) := dk_29 (dk_at dksX0_goes_6 6 rfl rfl)
theorem dX0_goes_144 : decode cX0_goes 144 = .ok (.ireturn, 1) := dk_172 (dk_at dksX0_goes_6 7 rfl rfl)
abbrev cX0_stands : ByteArray := prog_1_method_25_code
def yX0_stands : MethodName := ⟨RX0, "stands", "(I)I"⟩
def dkwX0_stands_2 : List UInt8 := [42, 180, 0, 27, 182, 0, 226, 87, 132, 2, 1, 167, 255, 221, 2, 172]
abbrev dktX0_stands_2 : List UInt8 := dkwX0_stands_2 ++ []
def dkwX0_stands_1 : List UInt8 := [28, 17, 0, 200, 163, 0, 34, 42, 180, 0, 27, 180, 0, 154, 27, 50, 182, 0, 199, 154, 0, 5, 28, 172]
abbrev dktX0_stands_1 : List UInt8 := dkwX0_stands_1 ++ dktX0_stands_2
def dkwX0_stands_0 : List UInt8 := [42, 27, 182, 0, 171, 154, 0, 6, 16, 254, 172, 42, 180, 0, 27, 42, 180, 0, 20, 182, 0, 255, 3, 61]
abbrev dktX0_stands_0 : List UInt8 := dkwX0_stands_0 ++ dktX0_stands_1
theorem dksX0_stands_0 : cX0_stands.data.toList.drop 0 = dktX0_stands_0 := by decide +kernel
theorem dksX0_stands_1 : cX0_stands.data.toList.drop 24 = dktX0_stands_1 := dk_seg dksX0_stands_0 24 rfl rfl
theorem dksX0_stands_2 : cX0_stands.data.toList.drop 48 = dktX0_stands_2 := dk_seg dksX0_stands_1 24 rfl rfl
theorem dX0_stands_0 : decode cX0_stands 0 = .ok (.aload_n 0, 1) := dk_42 (dk_at dksX0_stands_0 0 rfl rfl)
theorem dX0_stands_1 : decode cX0_stands 1 = .ok (.iload_n 1, 1) := dk_27 (dk_at dksX0_stands_0 1 rfl rfl)
theorem dX0_stands_2 : decode cX0_stands 2 = .ok (.invokevirtual 171, 3) := dk_182 0 171 (dk_at dksX0_stands_0 2 rfl rfl)
theorem dX0_stands_5 : decode cX0_stands 5 = .ok (.ifCond .ne 6, 3) := dk_154 0 6 (dk_at dksX0_stands_0 5 rfl rfl)
theorem dX0_stands_8 : decode cX0_stands 8 = .ok (.bipush (-2), 2) := dk_16 254 (dk_at dksX0_stands_0 8 rfl rfl)
theorem dX0_stands_10 : decode cX0_stands 10 = .ok (.ireturn, 1) := dk_172 (dk_at dksX0_stands_0 10 rfl rfl)
theorem dX0_stands_11 : decode cX0_stands 11 = .ok (.aload_n 0, 1) := dk_42 (dk_at dksX0_stands_0 11 rfl rfl)
theorem dX0_stands_12 : decode cX0_stands 12 = .ok (.getfield 27, 3) := dk_180 0 27 (dk_at dksX0_stands_0 12 rfl rfl)
theorem dX0_stands_15 : decode cX0_stands 15 = .ok (.aload_n 0, 1) := dk_42 (dk_at dksX0_stands_0 15 rfl rfl)
theorem dX0_stands_16 : decode cX0_stands 16 = .ok (.getfield 20, 3) := dk_180 0 20 (dk_at dksX0_stands_0 16 rfl rfl)
theorem dX0_stands_19 : decode cX0_stands 19 = .ok (.invokevirtual 255, 3) := dk_182 0 255 (dk_at dksX0_stands_0 19 rfl rfl)
theorem dX0_stands_22 : decode cX0_stands 22 = .ok (.iconst 0, 1) := dk_3 (dk_at dksX0_stands_0 22 rfl rfl)
theorem dX0_stands_23 : decode cX0_stands 23 = .ok (.istore_n 2, 1) := dk_61 (dk_at dksX0_stands_0 23 rfl rfl)
theorem dX0_stands_24 : decode cX0_stands 24 = .ok (.iload_n 2, 1) := dk_28 (dk_at dksX0_stands_1 0 rfl rfl)
theorem dX0_stands_25 : decode cX0_stands 25 = .ok (.sipush 200, 3) := dk_17 0 200 (dk_at dksX0_stands_1 1 rfl rfl)
theorem dX0_stands_28 : decode cX0_stands 28 = .ok (.if_icmp .gt 34, 3) := dk_163 0 34 (dk_at dksX0_stands_1 4 rfl rfl)
theorem dX0_stands_31 : decode cX0_stands 31 = .ok (.aload_n 0, 1) := dk_42 (dk_at dksX0_stands_1 7 rfl rfl)
theorem dX0_stands_32 : decode cX0_stands 32 = .ok (.getfield 27, 3) := dk_180 0 27 (dk_at dksX0_stands_1 8 rfl rfl)
theorem dX0_stands_35 : decode cX0_stands 35 = .ok (.getfield 154, 3) := dk_180 0 154 (dk_at dksX0_stands_1 11 rfl rfl)
theorem dX0_stands_38 : decode cX0_stands 38 = .ok (.iload_n 1, 1) := dk_27 (dk_at dksX0_stands_1 14 rfl rfl)
theorem dX0_stands_39 : decode cX0_stands 39 = .ok (.aaload, 1) := dk_50 (dk_at dksX0_stands_1 15 rfl rfl)
theorem dX0_stands_40 : decode cX0_stands 40 = .ok (.invokevirtual 199, 3) := dk_182 0 199 (dk_at dksX0_stands_1 16 rfl rfl)
theorem dX0_stands_43 : decode cX0_stands 43 = .ok (.ifCond .ne 5, 3) := dk_154 0 5 (dk_at dksX0_stands_1 19 rfl rfl)
theorem dX0_stands_46 : decode cX0_stands 46 = .ok (.iload_n 2, 1) := dk_28 (dk_at dksX0_stands_1 22 rfl rfl)
theorem dX0_stands_47 : decode cX0_stands 47 = .ok (.ireturn, 1) := dk_172 (dk_at dksX0_stands_1 23 rfl rfl)
theorem dX0_stands_48 : decode cX0_stands 48 = .ok (.aload_n 0, 1) := dk_42 (dk_at dksX0_stands_2 0 rfl rfl)
theorem dX0_stands_49 : decode cX0_stands 49 = .ok (.getfield 27, 3) := dk_180 0 27 (dk_at dksX0_stands_2 1 rfl rfl)
theorem dX0_stands_52 : decode cX0_stands 52 = .ok (.invokevirtual 226, 3) := dk_182 0 226 (dk_at dksX0_stands_2 4 rfl rfl)
theorem dX0_stands_55 : decode cX0_stands 55 = .ok (.pop, 1) := dk_87 (dk_at dksX0_stands_2 7 rfl rfl)
theorem dX0_stands_56 : decode cX0_stands 56 = .ok (.iinc 2 1, 3) := dk_132 2 1 (dk_at dksX0_stands_2 8 rfl rfl)
theorem dX0_stands_59 : decode cX0_stands 59 = .ok (.goto (-35), 3) := dk_167 255 221 (dk_at dksX0_stands_2 11 rfl rfl)
theorem dX0_stands_62 : decode cX0_stands 62 = .ok (.iconst (-1), 1) := dk_2 (dk_at dksX0_stands_2 14 rfl rfl)
theorem dX0_stands_63 : decode cX0_stands 63 = .ok (.ireturn, 1) := dk_172 (dk_at dksX0_stands_2 15 rfl rfl)
abbrev cX0_hears : ByteArray := prog_1_method_29_code
def yX0_hears : MethodName := ⟨RX0, "hears", "(II)I"⟩
def dkwX0_hears_0 : List UInt8 := [42, 27, 28, 3, 182, 1, 24, 172]
abbrev dktX0_hears_0 : List UInt8 := dkwX0_hears_0 ++ []
theorem dksX0_hears_0 : cX0_hears.data.toList.drop 0 = dktX0_hears_0 := by decide +kernel
theorem dX0_hears_0 : decode cX0_hears 0 = .ok (.aload_n 0, 1) := dk_42 (dk_at dksX0_hears_0 0 rfl rfl)
theorem dX0_hears_1 : decode cX0_hears 1 = .ok (.iload_n 1, 1) := dk_27 (dk_at dksX0_hears_0 1 rfl rfl)
theorem dX0_hears_2 : decode cX0_hears 2 = .ok (.iload_n 2, 1) := dk_28 (dk_at dksX0_hears_0 2 rfl rfl)
theorem dX0_hears_3 : decode cX0_hears 3 = .ok (.iconst 0, 1) := dk_3 (dk_at dksX0_hears_0 3 rfl rfl)
theorem dX0_hears_4 : decode cX0_hears 4 = .ok (.invokevirtual 280, 3) := dk_182 1 24 (dk_at dksX0_hears_0 4 rfl rfl)
theorem dX0_hears_7 : decode cX0_hears 7 = .ok (.ireturn, 1) := dk_172 (dk_at dksX0_hears_0 7 rfl rfl)
abbrev cX0_cost : ByteArray := prog_1_method_28_code
def yX0_cost : MethodName := ⟨RX0, "cost", "(IIZ)I"⟩
def dkwX0_cost_1 : List UInt8 := [42, 180, 0, 38, 28, 46, 19, 1, 16, 160, 0, 7, 2, 167, 0, 9, 42, 180, 0, 38, 28, 46, 172]
abbrev dktX0_cost_1 : List UInt8 := dkwX0_cost_1 ++ []
def dkwX0_cost_0 : List UInt8 := [42, 27, 182, 0, 171, 153, 0, 11, 42, 28, 182, 0, 171, 154, 0, 5, 2, 172, 42, 27, 29, 182, 1, 20]
abbrev dktX0_cost_0 : List UInt8 := dkwX0_cost_0 ++ dktX0_cost_1
theorem dksX0_cost_0 : cX0_cost.data.toList.drop 0 = dktX0_cost_0 := by decide +kernel
theorem dksX0_cost_1 : cX0_cost.data.toList.drop 24 = dktX0_cost_1 := dk_seg dksX0_cost_0 24 rfl rfl
theorem dX0_cost_0 : decode cX0_cost 0 = .ok (.aload_n 0, 1) := dk_42 (dk_at dksX0_cost_0 0 rfl rfl)
theorem dX0_cost_1 : decode cX0_cost 1 = .ok (.iload_n 1, 1) := dk_27 (dk_at dksX0_cost_0 1 rfl rfl)
theorem dX0_cost_2 : decode cX0_cost 2 = .ok (.invokevirtual 171, 3) := dk_182 0 171 (dk_at dksX0_cost_0 2 rfl rfl)
theorem dX0_cost_5 : decode cX0_cost 5 = .ok (.ifCond .eq 11, 3) := dk_153 0 11 (dk_at dksX0_cost_0 5 rfl rfl)
theorem dX0_cost_8 : decode cX0_cost 8 = .ok (.aload_n 0, 1) := dk_42 (dk_at dksX0_cost_0 8 rfl rfl)
theorem dX0_cost_9 : decode cX0_cost 9 = .ok (.iload_n 2, 1) := dk_28 (dk_at dksX0_cost_0 9 rfl rfl)
theorem dX0_cost_10 : decode cX0_cost 10 = .ok (.invokevirtual 171, 3) := dk_182 0 171 (dk_at dksX0_cost_0 10 rfl rfl)
theorem dX0_cost_13 : decode cX0_cost 13 = .ok (.ifCond .ne 5, 3) := dk_154 0 5 (dk_at dksX0_cost_0 13 rfl rfl)
theorem dX0_cost_16 : decode cX0_cost 16 = .ok (.iconst (-1), 1) := dk_2 (dk_at dksX0_cost_0 16 rfl rfl)
theorem dX0_cost_17 : decode cX0_cost 17 = .ok (.ireturn, 1) := dk_172 (dk_at dksX0_cost_0 17 rfl rfl)
theorem dX0_cost_18 : decode cX0_cost 18 = .ok (.aload_n 0, 1) := dk_42 (dk_at dksX0_cost_0 18 rfl rfl)
theorem dX0_cost_19 : decode cX0_cost 19 = .ok (.iload_n 1, 1) := dk_27 (dk_at dksX0_cost_0 19 rfl rfl)
theorem dX0_cost_20 : decode cX0_cost 20 = .ok (.iload_n 3, 1) := dk_29 (dk_at dksX0_cost_0 20 rfl rfl)
theorem dX0_cost_21 : decode cX0_cost 21 = .ok (.invokevirtual 276, 3) := dk_182 1 20 (dk_at dksX0_cost_0 21 rfl rfl)
theorem dX0_cost_24 : decode cX0_cost 24 = .ok (.aload_n 0, 1) := dk_42 (dk_at dksX0_cost_1 0 rfl rfl)
theorem dX0_cost_25 : decode cX0_cost 25 = .ok (.getfield 38, 3) := dk_180 0 38 (dk_at dksX0_cost_1 1 rfl rfl)
theorem dX0_cost_28 : decode cX0_cost 28 = .ok (.iload_n 2, 1) := dk_28 (dk_at dksX0_cost_1 4 rfl rfl)
theorem dX0_cost_29 : decode cX0_cost 29 = .ok (.iaload, 1) := dk_46 (dk_at dksX0_cost_1 5 rfl rfl)
theorem dX0_cost_30 : decode cX0_cost 30 = .ok (.ldc_w 272, 3) := dk_19 1 16 (dk_at dksX0_cost_1 6 rfl rfl)
theorem dX0_cost_33 : decode cX0_cost 33 = .ok (.if_icmp .ne 7, 3) := dk_160 0 7 (dk_at dksX0_cost_1 9 rfl rfl)
theorem dX0_cost_36 : decode cX0_cost 36 = .ok (.iconst (-1), 1) := dk_2 (dk_at dksX0_cost_1 12 rfl rfl)
theorem dX0_cost_37 : decode cX0_cost 37 = .ok (.goto 9, 3) := dk_167 0 9 (dk_at dksX0_cost_1 13 rfl rfl)
theorem dX0_cost_40 : decode cX0_cost 40 = .ok (.aload_n 0, 1) := dk_42 (dk_at dksX0_cost_1 16 rfl rfl)
theorem dX0_cost_41 : decode cX0_cost 41 = .ok (.getfield 38, 3) := dk_180 0 38 (dk_at dksX0_cost_1 17 rfl rfl)
theorem dX0_cost_44 : decode cX0_cost 44 = .ok (.iload_n 2, 1) := dk_28 (dk_at dksX0_cost_1 20 rfl rfl)
theorem dX0_cost_45 : decode cX0_cost 45 = .ok (.iaload, 1) := dk_46 (dk_at dksX0_cost_1 21 rfl rfl)
theorem dX0_cost_46 : decode cX0_cost 46 = .ok (.ireturn, 1) := dk_172 (dk_at dksX0_cost_1 22 rfl rfl)
abbrev cX0_laysCosts : ByteArray := prog_1_method_27_code
def yX0_laysCosts : MethodName := ⟨RX0, "laysCosts", "(IZ)V"⟩
def dkwX0_laysCosts_8 : List UInt8 := [167, 255, 108, 177]
abbrev dktX0_laysCosts_8 : List UInt8 := dkwX0_laysCosts_8 ++ []
def dkwX0_laysCosts_7 : List UInt8 := [184, 0, 71, 184, 0, 65, 79, 132, 5, 1, 167, 255, 149, 132, 4, 1, 167, 255, 128, 132, 3, 1]
abbrev dktX0_laysCosts_7 : List UInt8 := dkwX0_laysCosts_7 ++ dktX0_laysCosts_8
def dkwX0_laysCosts_6 : List UInt8 := [182, 1, 17, 96, 167, 0, 21, 42, 180, 0, 38, 21, 4, 46, 42, 21, 4, 21, 5, 182, 1, 17]
abbrev dktX0_laysCosts_6 : List UInt8 := dkwX0_laysCosts_6 ++ dktX0_laysCosts_7
def dkwX0_laysCosts_5 : List UInt8 := [180, 0, 38, 21, 5, 46, 28, 153, 0, 22, 42, 180, 0, 38, 21, 4, 46, 42, 21, 4, 21, 5]
abbrev dktX0_laysCosts_5 : List UInt8 := dkwX0_laysCosts_5 ++ dktX0_laysCosts_6
def dkwX0_laysCosts_4 : List UInt8 := [180, 0, 120, 21, 4, 46, 21, 5, 122, 4, 126, 154, 0, 6, 167, 0, 61, 42, 180, 0, 38, 21, 5, 42]
abbrev dktX0_laysCosts_4 : List UInt8 := dkwX0_laysCosts_4 ++ dktX0_laysCosts_5
def dkwX0_laysCosts_3 : List UInt8 := [180, 0, 151, 162, 0, 101, 42, 180, 0, 38, 21, 4, 46, 19, 1, 16, 162, 0, 88, 42, 180, 0, 20]
abbrev dktX0_laysCosts_3 : List UInt8 := dkwX0_laysCosts_3 ++ dktX0_laysCosts_4
def dkwX0_laysCosts_2 : List UInt8 := [54, 4, 21, 4, 42, 180, 0, 20, 180, 0, 151, 162, 0, 122, 3, 54, 5, 21, 5, 42, 180, 0, 20]
abbrev dktX0_laysCosts_2 : List UInt8 := dkwX0_laysCosts_2 ++ dktX0_laysCosts_3
def dkwX0_laysCosts_1 : List UInt8 := [19, 1, 16, 79, 132, 3, 1, 167, 255, 229, 3, 62, 29, 42, 180, 0, 20, 180, 0, 151, 162, 0, 143, 3]
abbrev dktX0_laysCosts_1 : List UInt8 := dkwX0_laysCosts_1 ++ dktX0_laysCosts_2
def dkwX0_laysCosts_0 : List UInt8 := [3, 62, 29, 16, 12, 162, 0, 27, 42, 180, 0, 38, 29, 29, 27, 160, 0, 7, 3, 167, 0, 6]
abbrev dktX0_laysCosts_0 : List UInt8 := dkwX0_laysCosts_0 ++ dktX0_laysCosts_1
theorem dksX0_laysCosts_0 : cX0_laysCosts.data.toList.drop 0 = dktX0_laysCosts_0 := by decide +kernel
theorem dksX0_laysCosts_1 : cX0_laysCosts.data.toList.drop 22 = dktX0_laysCosts_1 := dk_seg dksX0_laysCosts_0 22 rfl rfl
theorem dksX0_laysCosts_2 : cX0_laysCosts.data.toList.drop 46 = dktX0_laysCosts_2 := dk_seg dksX0_laysCosts_1 24 rfl rfl
theorem dksX0_laysCosts_3 : cX0_laysCosts.data.toList.drop 69 = dktX0_laysCosts_3 := dk_seg dksX0_laysCosts_2 23 rfl rfl
theorem dksX0_laysCosts_4 : cX0_laysCosts.data.toList.drop 92 = dktX0_laysCosts_4 := dk_seg dksX0_laysCosts_3 23 rfl rfl
theorem dksX0_laysCosts_5 : cX0_laysCosts.data.toList.drop 116 = dktX0_laysCosts_5 := dk_seg dksX0_laysCosts_4 24 rfl rfl
theorem dksX0_laysCosts_6 : cX0_laysCosts.data.toList.drop 138 = dktX0_laysCosts_6 := dk_seg dksX0_laysCosts_5 22 rfl rfl
theorem dksX0_laysCosts_7 : cX0_laysCosts.data.toList.drop 160 = dktX0_laysCosts_7 := dk_seg dksX0_laysCosts_6 22 rfl rfl
theorem dksX0_laysCosts_8 : cX0_laysCosts.data.toList.drop 182 = dktX0_laysCosts_8 := dk_seg dksX0_laysCosts_7 22 rfl rfl
theorem dX0_laysCosts_0 : decode cX0_laysCosts 0 = .ok (.iconst 0, 1) := dk_3 (dk_at dksX0_laysCosts_0 0 rfl rfl)
theorem dX0_laysCosts_1 : decode cX0_laysCosts 1 = .ok (.istore_n 3, 1) := dk_62 (dk_at dksX0_laysCosts_0 1 rfl rfl)
theorem dX0_laysCosts_2 : decode cX0_laysCosts 2 = .ok (.iload_n 3, 1) := dk_29 (dk_at dksX0_laysCosts_0 2 rfl rfl)
theorem dX0_laysCosts_3 : decode cX0_laysCosts 3 = .ok (.bipush 12, 2) := dk_16 12 (dk_at dksX0_laysCosts_0 3 rfl rfl)
theorem dX0_laysCosts_5 : decode cX0_laysCosts 5 = .ok (.if_icmp .ge 27, 3) := dk_162 0 27 (dk_at dksX0_laysCosts_0 5 rfl rfl)
theorem dX0_laysCosts_8 : decode cX0_laysCosts 8 = .ok (.aload_n 0, 1) := dk_42 (dk_at dksX0_laysCosts_0 8 rfl rfl)
theorem dX0_laysCosts_9 : decode cX0_laysCosts 9 = .ok (.getfield 38, 3) := dk_180 0 38 (dk_at dksX0_laysCosts_0 9 rfl rfl)
theorem dX0_laysCosts_12 : decode cX0_laysCosts 12 = .ok (.iload_n 3, 1) := dk_29 (dk_at dksX0_laysCosts_0 12 rfl rfl)
theorem dX0_laysCosts_13 : decode cX0_laysCosts 13 = .ok (.iload_n 3, 1) := dk_29 (dk_at dksX0_laysCosts_0 13 rfl rfl)
theorem dX0_laysCosts_14 : decode cX0_laysCosts 14 = .ok (.iload_n 1, 1) := dk_27 (dk_at dksX0_laysCosts_0 14 rfl rfl)
theorem dX0_laysCosts_15 : decode cX0_laysCosts 15 = .ok (.if_icmp .ne 7, 3) := dk_160 0 7 (dk_at dksX0_laysCosts_0 15 rfl rfl)
theorem dX0_laysCosts_18 : decode cX0_laysCosts 18 = .ok (.iconst 0, 1) := dk_3 (dk_at dksX0_laysCosts_0 18 rfl rfl)
theorem dX0_laysCosts_19 : decode cX0_laysCosts 19 = .ok (.goto 6, 3) := dk_167 0 6 (dk_at dksX0_laysCosts_0 19 rfl rfl)
theorem dX0_laysCosts_22 : decode cX0_laysCosts 22 = .ok (.ldc_w 272, 3) := dk_19 1 16 (dk_at dksX0_laysCosts_1 0 rfl rfl)
theorem dX0_laysCosts_25 : decode cX0_laysCosts 25 = .ok (.iastore, 1) := dk_79 (dk_at dksX0_laysCosts_1 3 rfl rfl)
theorem dX0_laysCosts_26 : decode cX0_laysCosts 26 = .ok (.iinc 3 1, 3) := dk_132 3 1 (dk_at dksX0_laysCosts_1 4 rfl rfl)
theorem dX0_laysCosts_29 : decode cX0_laysCosts 29 = .ok (.goto (-27), 3) := dk_167 255 229 (dk_at dksX0_laysCosts_1 7 rfl rfl)
theorem dX0_laysCosts_32 : decode cX0_laysCosts 32 = .ok (.iconst 0, 1) := dk_3 (dk_at dksX0_laysCosts_1 10 rfl rfl)
theorem dX0_laysCosts_33 : decode cX0_laysCosts 33 = .ok (.istore_n 3, 1) := dk_62 (dk_at dksX0_laysCosts_1 11 rfl rfl)
theorem dX0_laysCosts_34 : decode cX0_laysCosts 34 = .ok (.iload_n 3, 1) := dk_29 (dk_at dksX0_laysCosts_1 12 rfl rfl)
theorem dX0_laysCosts_35 : decode cX0_laysCosts 35 = .ok (.aload_n 0, 1) := dk_42 (dk_at dksX0_laysCosts_1 13 rfl rfl)
theorem dX0_laysCosts_36 : decode cX0_laysCosts 36 = .ok (.getfield 20, 3) := dk_180 0 20 (dk_at dksX0_laysCosts_1 14 rfl rfl)
theorem dX0_laysCosts_39 : decode cX0_laysCosts 39 = .ok (.getfield 151, 3) := dk_180 0 151 (dk_at dksX0_laysCosts_1 17 rfl rfl)
theorem dX0_laysCosts_42 : decode cX0_laysCosts 42 = .ok (.if_icmp .ge 143, 3) := dk_162 0 143 (dk_at dksX0_laysCosts_1 20 rfl rfl)
theorem dX0_laysCosts_45 : decode cX0_laysCosts 45 = .ok (.iconst 0, 1) := dk_3 (dk_at dksX0_laysCosts_1 23 rfl rfl)
theorem dX0_laysCosts_46 : decode cX0_laysCosts 46 = .ok (.istore 4, 2) := dk_54 4 (dk_at dksX0_laysCosts_2 0 rfl rfl)
theorem dX0_laysCosts_48 : decode cX0_laysCosts 48 = .ok (.iload 4, 2) := dk_21 4 (dk_at dksX0_laysCosts_2 2 rfl rfl)
theorem dX0_laysCosts_50 : decode cX0_laysCosts 50 = .ok (.aload_n 0, 1) := dk_42 (dk_at dksX0_laysCosts_2 4 rfl rfl)
theorem dX0_laysCosts_51 : decode cX0_laysCosts 51 = .ok (.getfield 20, 3) := dk_180 0 20 (dk_at dksX0_laysCosts_2 5 rfl rfl)
theorem dX0_laysCosts_54 : decode cX0_laysCosts 54 = .ok (.getfield 151, 3) := dk_180 0 151 (dk_at dksX0_laysCosts_2 8 rfl rfl)
theorem dX0_laysCosts_57 : decode cX0_laysCosts 57 = .ok (.if_icmp .ge 122, 3) := dk_162 0 122 (dk_at dksX0_laysCosts_2 11 rfl rfl)
theorem dX0_laysCosts_60 : decode cX0_laysCosts 60 = .ok (.iconst 0, 1) := dk_3 (dk_at dksX0_laysCosts_2 14 rfl rfl)
theorem dX0_laysCosts_61 : decode cX0_laysCosts 61 = .ok (.istore 5, 2) := dk_54 5 (dk_at dksX0_laysCosts_2 15 rfl rfl)
theorem dX0_laysCosts_63 : decode cX0_laysCosts 63 = .ok (.iload 5, 2) := dk_21 5 (dk_at dksX0_laysCosts_2 17 rfl rfl)
theorem dX0_laysCosts_65 : decode cX0_laysCosts 65 = .ok (.aload_n 0, 1) := dk_42 (dk_at dksX0_laysCosts_2 19 rfl rfl)
theorem dX0_laysCosts_66 : decode cX0_laysCosts 66 = .ok (.getfield 20, 3) := dk_180 0 20 (dk_at dksX0_laysCosts_2 20 rfl rfl)
theorem dX0_laysCosts_69 : decode cX0_laysCosts 69 = .ok (.getfield 151, 3) := dk_180 0 151 (dk_at dksX0_laysCosts_3 0 rfl rfl)
theorem dX0_laysCosts_72 : decode cX0_laysCosts 72 = .ok (.if_icmp .ge 101, 3) := dk_162 0 101 (dk_at dksX0_laysCosts_3 3 rfl rfl)
theorem dX0_laysCosts_75 : decode cX0_laysCosts 75 = .ok (.aload_n 0, 1) := dk_42 (dk_at dksX0_laysCosts_3 6 rfl rfl)
theorem dX0_laysCosts_76 : decode cX0_laysCosts 76 = .ok (.getfield 38, 3) := dk_180 0 38 (dk_at dksX0_laysCosts_3 7 rfl rfl)
theorem dX0_laysCosts_79 : decode cX0_laysCosts 79 = .ok (.iload 4, 2) := dk_21 4 (dk_at dksX0_laysCosts_3 10 rfl rfl)
theorem dX0_laysCosts_81 : decode cX0_laysCosts 81 = .ok (.iaload, 1) := dk_46 (dk_at dksX0_laysCosts_3 12 rfl rfl)
theorem dX0_laysCosts_82 : decode cX0_laysCosts 82 = .ok (.ldc_w 272, 3) := dk_19 1 16 (dk_at dksX0_laysCosts_3 13 rfl rfl)
theorem dX0_laysCosts_85 : decode cX0_laysCosts 85 = .ok (.if_icmp .ge 88, 3) := dk_162 0 88 (dk_at dksX0_laysCosts_3 16 rfl rfl)
theorem dX0_laysCosts_88 : decode cX0_laysCosts 88 = .ok (.aload_n 0, 1) := dk_42 (dk_at dksX0_laysCosts_3 19 rfl rfl)
theorem dX0_laysCosts_89 : decode cX0_laysCosts 89 = .ok (.getfield 20, 3) := dk_180 0 20 (dk_at dksX0_laysCosts_3 20 rfl rfl)
theorem dX0_laysCosts_92 : decode cX0_laysCosts 92 = .ok (.getfield 120, 3) := dk_180 0 120 (dk_at dksX0_laysCosts_4 0 rfl rfl)
theorem dX0_laysCosts_95 : decode cX0_laysCosts 95 = .ok (.iload 4, 2) := dk_21 4 (dk_at dksX0_laysCosts_4 3 rfl rfl)
theorem dX0_laysCosts_97 : decode cX0_laysCosts 97 = .ok (.iaload, 1) := dk_46 (dk_at dksX0_laysCosts_4 5 rfl rfl)
theorem dX0_laysCosts_98 : decode cX0_laysCosts 98 = .ok (.iload 5, 2) := dk_21 5 (dk_at dksX0_laysCosts_4 6 rfl rfl)
theorem dX0_laysCosts_100 : decode cX0_laysCosts 100 = .ok (.ishr, 1) := dk_122 (dk_at dksX0_laysCosts_4 8 rfl rfl)
theorem dX0_laysCosts_101 : decode cX0_laysCosts 101 = .ok (.iconst 1, 1) := dk_4 (dk_at dksX0_laysCosts_4 9 rfl rfl)
theorem dX0_laysCosts_102 : decode cX0_laysCosts 102 = .ok (.iand, 1) := dk_126 (dk_at dksX0_laysCosts_4 10 rfl rfl)
theorem dX0_laysCosts_103 : decode cX0_laysCosts 103 = .ok (.ifCond .ne 6, 3) := dk_154 0 6 (dk_at dksX0_laysCosts_4 11 rfl rfl)
theorem dX0_laysCosts_106 : decode cX0_laysCosts 106 = .ok (.goto 61, 3) := dk_167 0 61 (dk_at dksX0_laysCosts_4 14 rfl rfl)
theorem dX0_laysCosts_109 : decode cX0_laysCosts 109 = .ok (.aload_n 0, 1) := dk_42 (dk_at dksX0_laysCosts_4 17 rfl rfl)
theorem dX0_laysCosts_110 : decode cX0_laysCosts 110 = .ok (.getfield 38, 3) := dk_180 0 38 (dk_at dksX0_laysCosts_4 18 rfl rfl)
theorem dX0_laysCosts_113 : decode cX0_laysCosts 113 = .ok (.iload 5, 2) := dk_21 5 (dk_at dksX0_laysCosts_4 21 rfl rfl)
theorem dX0_laysCosts_115 : decode cX0_laysCosts 115 = .ok (.aload_n 0, 1) := dk_42 (dk_at dksX0_laysCosts_4 23 rfl rfl)
theorem dX0_laysCosts_116 : decode cX0_laysCosts 116 = .ok (.getfield 38, 3) := dk_180 0 38 (dk_at dksX0_laysCosts_5 0 rfl rfl)
theorem dX0_laysCosts_119 : decode cX0_laysCosts 119 = .ok (.iload 5, 2) := dk_21 5 (dk_at dksX0_laysCosts_5 3 rfl rfl)
theorem dX0_laysCosts_121 : decode cX0_laysCosts 121 = .ok (.iaload, 1) := dk_46 (dk_at dksX0_laysCosts_5 5 rfl rfl)
theorem dX0_laysCosts_122 : decode cX0_laysCosts 122 = .ok (.iload_n 2, 1) := dk_28 (dk_at dksX0_laysCosts_5 6 rfl rfl)
theorem dX0_laysCosts_123 : decode cX0_laysCosts 123 = .ok (.ifCond .eq 22, 3) := dk_153 0 22 (dk_at dksX0_laysCosts_5 7 rfl rfl)
theorem dX0_laysCosts_126 : decode cX0_laysCosts 126 = .ok (.aload_n 0, 1) := dk_42 (dk_at dksX0_laysCosts_5 10 rfl rfl)
theorem dX0_laysCosts_127 : decode cX0_laysCosts 127 = .ok (.getfield 38, 3) := dk_180 0 38 (dk_at dksX0_laysCosts_5 11 rfl rfl)
theorem dX0_laysCosts_130 : decode cX0_laysCosts 130 = .ok (.iload 4, 2) := dk_21 4 (dk_at dksX0_laysCosts_5 14 rfl rfl)
theorem dX0_laysCosts_132 : decode cX0_laysCosts 132 = .ok (.iaload, 1) := dk_46 (dk_at dksX0_laysCosts_5 16 rfl rfl)
theorem dX0_laysCosts_133 : decode cX0_laysCosts 133 = .ok (.aload_n 0, 1) := dk_42 (dk_at dksX0_laysCosts_5 17 rfl rfl)
theorem dX0_laysCosts_134 : decode cX0_laysCosts 134 = .ok (.iload 4, 2) := dk_21 4 (dk_at dksX0_laysCosts_5 18 rfl rfl)
theorem dX0_laysCosts_136 : decode cX0_laysCosts 136 = .ok (.iload 5, 2) := dk_21 5 (dk_at dksX0_laysCosts_5 20 rfl rfl)
theorem dX0_laysCosts_138 : decode cX0_laysCosts 138 = .ok (.invokevirtual 273, 3) := dk_182 1 17 (dk_at dksX0_laysCosts_6 0 rfl rfl)
theorem dX0_laysCosts_141 : decode cX0_laysCosts 141 = .ok (.iadd, 1) := dk_96 (dk_at dksX0_laysCosts_6 3 rfl rfl)
theorem dX0_laysCosts_142 : decode cX0_laysCosts 142 = .ok (.goto 21, 3) := dk_167 0 21 (dk_at dksX0_laysCosts_6 4 rfl rfl)
theorem dX0_laysCosts_145 : decode cX0_laysCosts 145 = .ok (.aload_n 0, 1) := dk_42 (dk_at dksX0_laysCosts_6 7 rfl rfl)
theorem dX0_laysCosts_146 : decode cX0_laysCosts 146 = .ok (.getfield 38, 3) := dk_180 0 38 (dk_at dksX0_laysCosts_6 8 rfl rfl)
theorem dX0_laysCosts_149 : decode cX0_laysCosts 149 = .ok (.iload 4, 2) := dk_21 4 (dk_at dksX0_laysCosts_6 11 rfl rfl)
theorem dX0_laysCosts_151 : decode cX0_laysCosts 151 = .ok (.iaload, 1) := dk_46 (dk_at dksX0_laysCosts_6 13 rfl rfl)
theorem dX0_laysCosts_152 : decode cX0_laysCosts 152 = .ok (.aload_n 0, 1) := dk_42 (dk_at dksX0_laysCosts_6 14 rfl rfl)
theorem dX0_laysCosts_153 : decode cX0_laysCosts 153 = .ok (.iload 4, 2) := dk_21 4 (dk_at dksX0_laysCosts_6 15 rfl rfl)
theorem dX0_laysCosts_155 : decode cX0_laysCosts 155 = .ok (.iload 5, 2) := dk_21 5 (dk_at dksX0_laysCosts_6 17 rfl rfl)
theorem dX0_laysCosts_157 : decode cX0_laysCosts 157 = .ok (.invokevirtual 273, 3) := dk_182 1 17 (dk_at dksX0_laysCosts_6 19 rfl rfl)
theorem dX0_laysCosts_160 : decode cX0_laysCosts 160 = .ok (.invokestatic 71, 3) := dk_184 0 71 (dk_at dksX0_laysCosts_7 0 rfl rfl)
theorem dX0_laysCosts_163 : decode cX0_laysCosts 163 = .ok (.invokestatic 65, 3) := dk_184 0 65 (dk_at dksX0_laysCosts_7 3 rfl rfl)
theorem dX0_laysCosts_166 : decode cX0_laysCosts 166 = .ok (.iastore, 1) := dk_79 (dk_at dksX0_laysCosts_7 6 rfl rfl)
theorem dX0_laysCosts_167 : decode cX0_laysCosts 167 = .ok (.iinc 5 1, 3) := dk_132 5 1 (dk_at dksX0_laysCosts_7 7 rfl rfl)
theorem dX0_laysCosts_170 : decode cX0_laysCosts 170 = .ok (.goto (-107), 3) := dk_167 255 149 (dk_at dksX0_laysCosts_7 10 rfl rfl)
theorem dX0_laysCosts_173 : decode cX0_laysCosts 173 = .ok (.iinc 4 1, 3) := dk_132 4 1 (dk_at dksX0_laysCosts_7 13 rfl rfl)
theorem dX0_laysCosts_176 : decode cX0_laysCosts 176 = .ok (.goto (-128), 3) := dk_167 255 128 (dk_at dksX0_laysCosts_7 16 rfl rfl)
theorem dX0_laysCosts_179 : decode cX0_laysCosts 179 = .ok (.iinc 3 1, 3) := dk_132 3 1 (dk_at dksX0_laysCosts_7 19 rfl rfl)
theorem dX0_laysCosts_182 : decode cX0_laysCosts 182 = .ok (.goto (-148), 3) := dk_167 255 108 (dk_at dksX0_laysCosts_8 0 rfl rfl)
theorem dX0_laysCosts_185 : decode cX0_laysCosts 185 = .ok (.return_, 1) := dk_177 (dk_at dksX0_laysCosts_8 3 rfl rfl)
abbrev cX0_step : ByteArray := prog_1_method_26_code
def yX0_step : MethodName := ⟨RX0, "step", "(II)I"⟩
def dkwX0_step_0 : List UInt8 := [42, 27, 182, 0, 161, 182, 1, 13, 42, 28, 182, 0, 161, 182, 1, 13, 96, 172]
abbrev dktX0_step_0 : List UInt8 := dkwX0_step_0 ++ []
theorem dksX0_step_0 : cX0_step.data.toList.drop 0 = dktX0_step_0 := by decide +kernel
theorem dX0_step_0 : decode cX0_step 0 = .ok (.aload_n 0, 1) := dk_42 (dk_at dksX0_step_0 0 rfl rfl)
theorem dX0_step_1 : decode cX0_step 1 = .ok (.iload_n 1, 1) := dk_27 (dk_at dksX0_step_0 1 rfl rfl)
theorem dX0_step_2 : decode cX0_step 2 = .ok (.invokevirtual 161, 3) := dk_182 0 161 (dk_at dksX0_step_0 2 rfl rfl)
theorem dX0_step_5 : decode cX0_step 5 = .ok (.invokevirtual 269, 3) := dk_182 1 13 (dk_at dksX0_step_0 5 rfl rfl)
theorem dX0_step_8 : decode cX0_step 8 = .ok (.aload_n 0, 1) := dk_42 (dk_at dksX0_step_0 8 rfl rfl)
theorem dX0_step_9 : decode cX0_step 9 = .ok (.iload_n 2, 1) := dk_28 (dk_at dksX0_step_0 9 rfl rfl)
theorem dX0_step_10 : decode cX0_step 10 = .ok (.invokevirtual 161, 3) := dk_182 0 161 (dk_at dksX0_step_0 10 rfl rfl)
theorem dX0_step_13 : decode cX0_step 13 = .ok (.invokevirtual 269, 3) := dk_182 1 13 (dk_at dksX0_step_0 13 rfl rfl)
theorem dX0_step_16 : decode cX0_step 16 = .ok (.iadd, 1) := dk_96 (dk_at dksX0_step_0 16 rfl rfl)
theorem dX0_step_17 : decode cX0_step 17 = .ok (.ireturn, 1) := dk_172 (dk_at dksX0_step_0 17 rfl rfl)
abbrev cX0_ants : ByteArray := prog_1_method_30_code
def yX0_ants : MethodName := ⟨RX0, "ants", "(II)I"⟩
def dkwX0_ants_0 : List UInt8 := [42, 27, 28, 4, 182, 1, 24, 172]
abbrev dktX0_ants_0 : List UInt8 := dkwX0_ants_0 ++ []
theorem dksX0_ants_0 : cX0_ants.data.toList.drop 0 = dktX0_ants_0 := by decide +kernel
theorem dX0_ants_0 : decode cX0_ants 0 = .ok (.aload_n 0, 1) := dk_42 (dk_at dksX0_ants_0 0 rfl rfl)
theorem dX0_ants_1 : decode cX0_ants 1 = .ok (.iload_n 1, 1) := dk_27 (dk_at dksX0_ants_0 1 rfl rfl)
theorem dX0_ants_2 : decode cX0_ants 2 = .ok (.iload_n 2, 1) := dk_28 (dk_at dksX0_ants_0 2 rfl rfl)
theorem dX0_ants_3 : decode cX0_ants 3 = .ok (.iconst 1, 1) := dk_4 (dk_at dksX0_ants_0 3 rfl rfl)
theorem dX0_ants_4 : decode cX0_ants 4 = .ok (.invokevirtual 280, 3) := dk_182 1 24 (dk_at dksX0_ants_0 4 rfl rfl)
theorem dX0_ants_7 : decode cX0_ants 7 = .ok (.ireturn, 1) := dk_172 (dk_at dksX0_ants_0 7 rfl rfl)
abbrev cX0_heard : ByteArray := prog_1_method_31_code
def yX0_heard : MethodName := ⟨RX0, "heard", "(II)I"⟩
def dkwX0_heard_3 : List UInt8 := [167, 255, 216, 29, 172]
abbrev dktX0_heard_3 : List UInt8 := dkwX0_heard_3 ++ []
def dkwX0_heard_2 : List UInt8 := [159, 0, 18, 42, 180, 0, 38, 21, 4, 46, 28, 163, 0, 7, 4, 167, 0, 4, 3, 96, 62, 132, 4, 1]
abbrev dktX0_heard_2 : List UInt8 := dkwX0_heard_2 ++ dktX0_heard_3
def dkwX0_heard_1 : List UInt8 := [182, 1, 20, 3, 62, 3, 54, 4, 21, 4, 42, 180, 0, 20, 180, 0, 151, 162, 0, 34, 29, 21, 4, 27]
abbrev dktX0_heard_1 : List UInt8 := dkwX0_heard_1 ++ dktX0_heard_2
def dkwX0_heard_0 : List UInt8 := [42, 27, 182, 0, 171, 153, 0, 14, 28, 3, 17, 3, 32, 184, 0, 81, 154, 0, 5, 2, 172, 42, 27, 3]
abbrev dktX0_heard_0 : List UInt8 := dkwX0_heard_0 ++ dktX0_heard_1
theorem dksX0_heard_0 : cX0_heard.data.toList.drop 0 = dktX0_heard_0 := by decide +kernel
theorem dksX0_heard_1 : cX0_heard.data.toList.drop 24 = dktX0_heard_1 := dk_seg dksX0_heard_0 24 rfl rfl
theorem dksX0_heard_2 : cX0_heard.data.toList.drop 48 = dktX0_heard_2 := dk_seg dksX0_heard_1 24 rfl rfl
theorem dksX0_heard_3 : cX0_heard.data.toList.drop 72 = dktX0_heard_3 := dk_seg dksX0_heard_2 24 rfl rfl
theorem dX0_heard_0 : decode cX0_heard 0 = .ok (.aload_n 0, 1) := dk_42 (dk_at dksX0_heard_0 0 rfl rfl)
theorem dX0_heard_1 : decode cX0_heard 1 = .ok (.iload_n 1, 1) := dk_27 (dk_at dksX0_heard_0 1 rfl rfl)
theorem dX0_heard_2 : decode cX0_heard 2 = .ok (.invokevirtual 171, 3) := dk_182 0 171 (dk_at dksX0_heard_0 2 rfl rfl)
theorem dX0_heard_5 : decode cX0_heard 5 = .ok (.ifCond .eq 14, 3) := dk_153 0 14 (dk_at dksX0_heard_0 5 rfl rfl)
theorem dX0_heard_8 : decode cX0_heard 8 = .ok (.iload_n 2, 1) := dk_28 (dk_at dksX0_heard_0 8 rfl rfl)
theorem dX0_heard_9 : decode cX0_heard 9 = .ok (.iconst 0, 1) := dk_3 (dk_at dksX0_heard_0 9 rfl rfl)
theorem dX0_heard_10 : decode cX0_heard 10 = .ok (.sipush 800, 3) := dk_17 3 32 (dk_at dksX0_heard_0 10 rfl rfl)
theorem dX0_heard_13 : decode cX0_heard 13 = .ok (.invokestatic 81, 3) := dk_184 0 81 (dk_at dksX0_heard_0 13 rfl rfl)
theorem dX0_heard_16 : decode cX0_heard 16 = .ok (.ifCond .ne 5, 3) := dk_154 0 5 (dk_at dksX0_heard_0 16 rfl rfl)
theorem dX0_heard_19 : decode cX0_heard 19 = .ok (.iconst (-1), 1) := dk_2 (dk_at dksX0_heard_0 19 rfl rfl)
theorem dX0_heard_20 : decode cX0_heard 20 = .ok (.ireturn, 1) := dk_172 (dk_at dksX0_heard_0 20 rfl rfl)
theorem dX0_heard_21 : decode cX0_heard 21 = .ok (.aload_n 0, 1) := dk_42 (dk_at dksX0_heard_0 21 rfl rfl)
theorem dX0_heard_22 : decode cX0_heard 22 = .ok (.iload_n 1, 1) := dk_27 (dk_at dksX0_heard_0 22 rfl rfl)
theorem dX0_heard_23 : decode cX0_heard 23 = .ok (.iconst 0, 1) := dk_3 (dk_at dksX0_heard_0 23 rfl rfl)
theorem dX0_heard_24 : decode cX0_heard 24 = .ok (.invokevirtual 276, 3) := dk_182 1 20 (dk_at dksX0_heard_1 0 rfl rfl)
theorem dX0_heard_27 : decode cX0_heard 27 = .ok (.iconst 0, 1) := dk_3 (dk_at dksX0_heard_1 3 rfl rfl)
theorem dX0_heard_28 : decode cX0_heard 28 = .ok (.istore_n 3, 1) := dk_62 (dk_at dksX0_heard_1 4 rfl rfl)
theorem dX0_heard_29 : decode cX0_heard 29 = .ok (.iconst 0, 1) := dk_3 (dk_at dksX0_heard_1 5 rfl rfl)
theorem dX0_heard_30 : decode cX0_heard 30 = .ok (.istore 4, 2) := dk_54 4 (dk_at dksX0_heard_1 6 rfl rfl)
theorem dX0_heard_32 : decode cX0_heard 32 = .ok (.iload 4, 2) := dk_21 4 (dk_at dksX0_heard_1 8 rfl rfl)
theorem dX0_heard_34 : decode cX0_heard 34 = .ok (.aload_n 0, 1) := dk_42 (dk_at dksX0_heard_1 10 rfl rfl)
theorem dX0_heard_35 : decode cX0_heard 35 = .ok (.getfield 20, 3) := dk_180 0 20 (dk_at dksX0_heard_1 11 rfl rfl)
theorem dX0_heard_38 : decode cX0_heard 38 = .ok (.getfield 151, 3) := dk_180 0 151 (dk_at dksX0_heard_1 14 rfl rfl)
theorem dX0_heard_41 : decode cX0_heard 41 = .ok (.if_icmp .ge 34, 3) := dk_162 0 34 (dk_at dksX0_heard_1 17 rfl rfl)
theorem dX0_heard_44 : decode cX0_heard 44 = .ok (.iload_n 3, 1) := dk_29 (dk_at dksX0_heard_1 20 rfl rfl)
theorem dX0_heard_45 : decode cX0_heard 45 = .ok (.iload 4, 2) := dk_21 4 (dk_at dksX0_heard_1 21 rfl rfl)
theorem dX0_heard_47 : decode cX0_heard 47 = .ok (.iload_n 1, 1) := dk_27 (dk_at dksX0_heard_1 23 rfl rfl)
theorem dX0_heard_48 : decode cX0_heard 48 = .ok (.if_icmp .eq 18, 3) := dk_159 0 18 (dk_at dksX0_heard_2 0 rfl rfl)
theorem dX0_heard_51 : decode cX0_heard 51 = .ok (.aload_n 0, 1) := dk_42 (dk_at dksX0_heard_2 3 rfl rfl)
theorem dX0_heard_52 : decode cX0_heard 52 = .ok (.getfield 38, 3) := dk_180 0 38 (dk_at dksX0_heard_2 4 rfl rfl)
theorem dX0_heard_55 : decode cX0_heard 55 = .ok (.iload 4, 2) := dk_21 4 (dk_at dksX0_heard_2 7 rfl rfl)
theorem dX0_heard_57 : decode cX0_heard 57 = .ok (.iaload, 1) := dk_46 (dk_at dksX0_heard_2 9 rfl rfl)
theorem dX0_heard_58 : decode cX0_heard 58 = .ok (.iload_n 2, 1) := dk_28 (dk_at dksX0_heard_2 10 rfl rfl)
theorem dX0_heard_59 : decode cX0_heard 59 = .ok (.if_icmp .gt 7, 3) := dk_163 0 7 (dk_at dksX0_heard_2 11 rfl rfl)
theorem dX0_heard_62 : decode cX0_heard 62 = .ok (.iconst 1, 1) := dk_4 (dk_at dksX0_heard_2 14 rfl rfl)
theorem dX0_heard_63 : decode cX0_heard 63 = .ok (.goto 4, 3) := dk_167 0 4 (dk_at dksX0_heard_2 15 rfl rfl)
theorem dX0_heard_66 : decode cX0_heard 66 = .ok (.iconst 0, 1) := dk_3 (dk_at dksX0_heard_2 18 rfl rfl)
theorem dX0_heard_67 : decode cX0_heard 67 = .ok (.iadd, 1) := dk_96 (dk_at dksX0_heard_2 19 rfl rfl)
theorem dX0_heard_68 : decode cX0_heard 68 = .ok (.istore_n 3, 1) := dk_62 (dk_at dksX0_heard_2 20 rfl rfl)
theorem dX0_heard_69 : decode cX0_heard 69 = .ok (.iinc 4 1, 3) := dk_132 4 1 (dk_at dksX0_heard_2 21 rfl rfl)
theorem dX0_heard_72 : decode cX0_heard 72 = .ok (.goto (-40), 3) := dk_167 255 216 (dk_at dksX0_heard_3 0 rfl rfl)
theorem dX0_heard_75 : decode cX0_heard 75 = .ok (.iload_n 3, 1) := dk_29 (dk_at dksX0_heard_3 3 rfl rfl)
theorem dX0_heard_76 : decode cX0_heard 76 = .ok (.ireturn, 1) := dk_172 (dk_at dksX0_heard_3 4 rfl rfl)
abbrev cX0_piece : ByteArray := prog_1_method_32_code
def yX0_piece : MethodName := ⟨RX0, "piece", "(I)I"⟩
def dkwX0_piece_1 : List UInt8 := [184, 0, 81, 153, 0, 18, 42, 180, 0, 20, 180, 1, 28, 27, 3, 182, 1, 37, 167, 0, 4, 2, 172]
abbrev dktX0_piece_1 : List UInt8 := dkwX0_piece_1 ++ []
def dkwX0_piece_0 : List UInt8 := [27, 2, 160, 0, 16, 42, 180, 0, 20, 180, 1, 28, 182, 1, 32, 167, 0, 29, 27, 3, 16, 99]
abbrev dktX0_piece_0 : List UInt8 := dkwX0_piece_0 ++ dktX0_piece_1
theorem dksX0_piece_0 : cX0_piece.data.toList.drop 0 = dktX0_piece_0 := by decide +kernel
theorem dksX0_piece_1 : cX0_piece.data.toList.drop 22 = dktX0_piece_1 := dk_seg dksX0_piece_0 22 rfl rfl
theorem dX0_piece_0 : decode cX0_piece 0 = .ok (.iload_n 1, 1) := dk_27 (dk_at dksX0_piece_0 0 rfl rfl)
theorem dX0_piece_1 : decode cX0_piece 1 = .ok (.iconst (-1), 1) := dk_2 (dk_at dksX0_piece_0 1 rfl rfl)
theorem dX0_piece_2 : decode cX0_piece 2 = .ok (.if_icmp .ne 16, 3) := dk_160 0 16 (dk_at dksX0_piece_0 2 rfl rfl)
theorem dX0_piece_5 : decode cX0_piece 5 = .ok (.aload_n 0, 1) := dk_42 (dk_at dksX0_piece_0 5 rfl rfl)
theorem dX0_piece_6 : decode cX0_piece 6 = .ok (.getfield 20, 3) := dk_180 0 20 (dk_at dksX0_piece_0 6 rfl rfl)
theorem dX0_piece_9 : decode cX0_piece 9 = .ok (.getfield 284, 3) := dk_180 1 28 (dk_at dksX0_piece_0 9 rfl rfl)
theorem dX0_piece_12 : decode cX0_piece 12 = .ok (.invokevirtual 288, 3) := dk_182 1 32 (dk_at dksX0_piece_0 12 rfl rfl)
theorem dX0_piece_15 : decode cX0_piece 15 = .ok (.goto 29, 3) := dk_167 0 29 (dk_at dksX0_piece_0 15 rfl rfl)
theorem dX0_piece_18 : decode cX0_piece 18 = .ok (.iload_n 1, 1) := dk_27 (dk_at dksX0_piece_0 18 rfl rfl)
theorem dX0_piece_19 : decode cX0_piece 19 = .ok (.iconst 0, 1) := dk_3 (dk_at dksX0_piece_0 19 rfl rfl)
theorem dX0_piece_20 : decode cX0_piece 20 = .ok (.bipush 99, 2) := dk_16 99 (dk_at dksX0_piece_0 20 rfl rfl)
theorem dX0_piece_22 : decode cX0_piece 22 = .ok (.invokestatic 81, 3) := dk_184 0 81 (dk_at dksX0_piece_1 0 rfl rfl)
theorem dX0_piece_25 : decode cX0_piece 25 = .ok (.ifCond .eq 18, 3) := dk_153 0 18 (dk_at dksX0_piece_1 3 rfl rfl)
theorem dX0_piece_28 : decode cX0_piece 28 = .ok (.aload_n 0, 1) := dk_42 (dk_at dksX0_piece_1 6 rfl rfl)
theorem dX0_piece_29 : decode cX0_piece 29 = .ok (.getfield 20, 3) := dk_180 0 20 (dk_at dksX0_piece_1 7 rfl rfl)
theorem dX0_piece_32 : decode cX0_piece 32 = .ok (.getfield 284, 3) := dk_180 1 28 (dk_at dksX0_piece_1 10 rfl rfl)
theorem dX0_piece_35 : decode cX0_piece 35 = .ok (.iload_n 1, 1) := dk_27 (dk_at dksX0_piece_1 13 rfl rfl)
theorem dX0_piece_36 : decode cX0_piece 36 = .ok (.iconst 0, 1) := dk_3 (dk_at dksX0_piece_1 14 rfl rfl)
theorem dX0_piece_37 : decode cX0_piece 37 = .ok (.invokevirtual 293, 3) := dk_182 1 37 (dk_at dksX0_piece_1 15 rfl rfl)
theorem dX0_piece_40 : decode cX0_piece 40 = .ok (.goto 4, 3) := dk_167 0 4 (dk_at dksX0_piece_1 18 rfl rfl)
theorem dX0_piece_43 : decode cX0_piece 43 = .ok (.iconst (-1), 1) := dk_2 (dk_at dksX0_piece_1 21 rfl rfl)
theorem dX0_piece_44 : decode cX0_piece 44 = .ok (.ireturn, 1) := dk_172 (dk_at dksX0_piece_1 22 rfl rfl)
abbrev cX0_plate : ByteArray := prog_1_method_35_code
def yX0_plate : MethodName := ⟨RX0, "plate", "(II)I"⟩
def dkwX0_plate_4 : List UInt8 := [167, 255, 223, 29, 172]
abbrev dktX0_plate_4 : List UInt8 := dkwX0_plate_4 ++ []
def dkwX0_plate_3 : List UInt8 := [27, 4, 100, 50, 29, 46, 184, 0, 65, 42, 180, 0, 44, 27, 50, 3, 46, 159, 0, 9, 132, 3, 1]
abbrev dktX0_plate_3 : List UInt8 := dkwX0_plate_3 ++ dktX0_plate_4
def dkwX0_plate_2 : List UInt8 := [180, 0, 44, 27, 50, 3, 46, 167, 0, 4, 2, 172, 4, 62, 42, 3, 29, 182, 1, 46, 42, 180, 0, 44]
abbrev dktX0_plate_2 : List UInt8 := dkwX0_plate_2 ++ dktX0_plate_3
def dkwX0_plate_1 : List UInt8 := [154, 0, 5, 2, 172, 42, 27, 182, 1, 49, 28, 153, 0, 8, 27, 4, 160, 0, 20, 28, 154, 0, 14, 42]
abbrev dktX0_plate_1 : List UInt8 := dkwX0_plate_1 ++ dktX0_plate_2
def dkwX0_plate_0 : List UInt8 := [27, 4, 42, 180, 0, 20, 180, 1, 28, 180, 1, 43, 184, 0, 81, 153, 0, 12, 28, 3, 4, 184, 0, 81]
abbrev dktX0_plate_0 : List UInt8 := dkwX0_plate_0 ++ dktX0_plate_1
theorem dksX0_plate_0 : cX0_plate.data.toList.drop 0 = dktX0_plate_0 := by decide +kernel
theorem dksX0_plate_1 : cX0_plate.data.toList.drop 24 = dktX0_plate_1 := dk_seg dksX0_plate_0 24 rfl rfl
theorem dksX0_plate_2 : cX0_plate.data.toList.drop 48 = dktX0_plate_2 := dk_seg dksX0_plate_1 24 rfl rfl
theorem dksX0_plate_3 : cX0_plate.data.toList.drop 72 = dktX0_plate_3 := dk_seg dksX0_plate_2 24 rfl rfl
theorem dksX0_plate_4 : cX0_plate.data.toList.drop 95 = dktX0_plate_4 := dk_seg dksX0_plate_3 23 rfl rfl
theorem dX0_plate_0 : decode cX0_plate 0 = .ok (.iload_n 1, 1) := dk_27 (dk_at dksX0_plate_0 0 rfl rfl)
theorem dX0_plate_1 : decode cX0_plate 1 = .ok (.iconst 1, 1) := dk_4 (dk_at dksX0_plate_0 1 rfl rfl)
theorem dX0_plate_2 : decode cX0_plate 2 = .ok (.aload_n 0, 1) := dk_42 (dk_at dksX0_plate_0 2 rfl rfl)
theorem dX0_plate_3 : decode cX0_plate 3 = .ok (.getfield 20, 3) := dk_180 0 20 (dk_at dksX0_plate_0 3 rfl rfl)
theorem dX0_plate_6 : decode cX0_plate 6 = .ok (.getfield 284, 3) := dk_180 1 28 (dk_at dksX0_plate_0 6 rfl rfl)
theorem dX0_plate_9 : decode cX0_plate 9 = .ok (.getfield 299, 3) := dk_180 1 43 (dk_at dksX0_plate_0 9 rfl rfl)
theorem dX0_plate_12 : decode cX0_plate 12 = .ok (.invokestatic 81, 3) := dk_184 0 81 (dk_at dksX0_plate_0 12 rfl rfl)
theorem dX0_plate_15 : decode cX0_plate 15 = .ok (.ifCond .eq 12, 3) := dk_153 0 12 (dk_at dksX0_plate_0 15 rfl rfl)
theorem dX0_plate_18 : decode cX0_plate 18 = .ok (.iload_n 2, 1) := dk_28 (dk_at dksX0_plate_0 18 rfl rfl)
theorem dX0_plate_19 : decode cX0_plate 19 = .ok (.iconst 0, 1) := dk_3 (dk_at dksX0_plate_0 19 rfl rfl)
theorem dX0_plate_20 : decode cX0_plate 20 = .ok (.iconst 1, 1) := dk_4 (dk_at dksX0_plate_0 20 rfl rfl)
theorem dX0_plate_21 : decode cX0_plate 21 = .ok (.invokestatic 81, 3) := dk_184 0 81 (dk_at dksX0_plate_0 21 rfl rfl)
theorem dX0_plate_24 : decode cX0_plate 24 = .ok (.ifCond .ne 5, 3) := dk_154 0 5 (dk_at dksX0_plate_1 0 rfl rfl)
theorem dX0_plate_27 : decode cX0_plate 27 = .ok (.iconst (-1), 1) := dk_2 (dk_at dksX0_plate_1 3 rfl rfl)
theorem dX0_plate_28 : decode cX0_plate 28 = .ok (.ireturn, 1) := dk_172 (dk_at dksX0_plate_1 4 rfl rfl)
theorem dX0_plate_29 : decode cX0_plate 29 = .ok (.aload_n 0, 1) := dk_42 (dk_at dksX0_plate_1 5 rfl rfl)
theorem dX0_plate_30 : decode cX0_plate 30 = .ok (.iload_n 1, 1) := dk_27 (dk_at dksX0_plate_1 6 rfl rfl)
theorem dX0_plate_31 : decode cX0_plate 31 = .ok (.invokevirtual 305, 3) := dk_182 1 49 (dk_at dksX0_plate_1 7 rfl rfl)
theorem dX0_plate_34 : decode cX0_plate 34 = .ok (.iload_n 2, 1) := dk_28 (dk_at dksX0_plate_1 10 rfl rfl)
theorem dX0_plate_35 : decode cX0_plate 35 = .ok (.ifCond .eq 8, 3) := dk_153 0 8 (dk_at dksX0_plate_1 11 rfl rfl)
theorem dX0_plate_38 : decode cX0_plate 38 = .ok (.iload_n 1, 1) := dk_27 (dk_at dksX0_plate_1 14 rfl rfl)
theorem dX0_plate_39 : decode cX0_plate 39 = .ok (.iconst 1, 1) := dk_4 (dk_at dksX0_plate_1 15 rfl rfl)
theorem dX0_plate_40 : decode cX0_plate 40 = .ok (.if_icmp .ne 20, 3) := dk_160 0 20 (dk_at dksX0_plate_1 16 rfl rfl)
theorem dX0_plate_43 : decode cX0_plate 43 = .ok (.iload_n 2, 1) := dk_28 (dk_at dksX0_plate_1 19 rfl rfl)
theorem dX0_plate_44 : decode cX0_plate 44 = .ok (.ifCond .ne 14, 3) := dk_154 0 14 (dk_at dksX0_plate_1 20 rfl rfl)
theorem dX0_plate_47 : decode cX0_plate 47 = .ok (.aload_n 0, 1) := dk_42 (dk_at dksX0_plate_1 23 rfl rfl)
theorem dX0_plate_48 : decode cX0_plate 48 = .ok (.getfield 44, 3) := dk_180 0 44 (dk_at dksX0_plate_2 0 rfl rfl)
theorem dX0_plate_51 : decode cX0_plate 51 = .ok (.iload_n 1, 1) := dk_27 (dk_at dksX0_plate_2 3 rfl rfl)
theorem dX0_plate_52 : decode cX0_plate 52 = .ok (.aaload, 1) := dk_50 (dk_at dksX0_plate_2 4 rfl rfl)
theorem dX0_plate_53 : decode cX0_plate 53 = .ok (.iconst 0, 1) := dk_3 (dk_at dksX0_plate_2 5 rfl rfl)
theorem dX0_plate_54 : decode cX0_plate 54 = .ok (.iaload, 1) := dk_46 (dk_at dksX0_plate_2 6 rfl rfl)
theorem dX0_plate_55 : decode cX0_plate 55 = .ok (.goto 4, 3) := dk_167 0 4 (dk_at dksX0_plate_2 7 rfl rfl)
theorem dX0_plate_58 : decode cX0_plate 58 = .ok (.iconst (-1), 1) := dk_2 (dk_at dksX0_plate_2 10 rfl rfl)
theorem dX0_plate_59 : decode cX0_plate 59 = .ok (.ireturn, 1) := dk_172 (dk_at dksX0_plate_2 11 rfl rfl)
theorem dX0_plate_60 : decode cX0_plate 60 = .ok (.iconst 1, 1) := dk_4 (dk_at dksX0_plate_2 12 rfl rfl)
theorem dX0_plate_61 : decode cX0_plate 61 = .ok (.istore_n 3, 1) := dk_62 (dk_at dksX0_plate_2 13 rfl rfl)
theorem dX0_plate_62 : decode cX0_plate 62 = .ok (.aload_n 0, 1) := dk_42 (dk_at dksX0_plate_2 14 rfl rfl)
theorem dX0_plate_63 : decode cX0_plate 63 = .ok (.iconst 0, 1) := dk_3 (dk_at dksX0_plate_2 15 rfl rfl)
theorem dX0_plate_64 : decode cX0_plate 64 = .ok (.iload_n 3, 1) := dk_29 (dk_at dksX0_plate_2 16 rfl rfl)
theorem dX0_plate_65 : decode cX0_plate 65 = .ok (.invokevirtual 302, 3) := dk_182 1 46 (dk_at dksX0_plate_2 17 rfl rfl)
theorem dX0_plate_68 : decode cX0_plate 68 = .ok (.aload_n 0, 1) := dk_42 (dk_at dksX0_plate_2 20 rfl rfl)
theorem dX0_plate_69 : decode cX0_plate 69 = .ok (.getfield 44, 3) := dk_180 0 44 (dk_at dksX0_plate_2 21 rfl rfl)
theorem dX0_plate_72 : decode cX0_plate 72 = .ok (.iload_n 1, 1) := dk_27 (dk_at dksX0_plate_3 0 rfl rfl)
theorem dX0_plate_73 : decode cX0_plate 73 = .ok (.iconst 1, 1) := dk_4 (dk_at dksX0_plate_3 1 rfl rfl)
theorem dX0_plate_74 : decode cX0_plate 74 = .ok (.isub, 1) := dk_100 (dk_at dksX0_plate_3 2 rfl rfl)
theorem dX0_plate_75 : decode cX0_plate 75 = .ok (.aaload, 1) := dk_50 (dk_at dksX0_plate_3 3 rfl rfl)
theorem dX0_plate_76 : decode cX0_plate 76 = .ok (.iload_n 3, 1) := dk_29 (dk_at dksX0_plate_3 4 rfl rfl)
theorem dX0_plate_77 : decode cX0_plate 77 = .ok (.iaload, 1) := dk_46 (dk_at dksX0_plate_3 5 rfl rfl)
theorem dX0_plate_78 : decode cX0_plate 78 = .ok (.invokestatic 65, 3) := dk_184 0 65 (dk_at dksX0_plate_3 6 rfl rfl)
theorem dX0_plate_81 : decode cX0_plate 81 = .ok (.aload_n 0, 1) := dk_42 (dk_at dksX0_plate_3 9 rfl rfl)
theorem dX0_plate_82 : decode cX0_plate 82 = .ok (.getfield 44, 3) := dk_180 0 44 (dk_at dksX0_plate_3 10 rfl rfl)
theorem dX0_plate_85 : decode cX0_plate 85 = .ok (.iload_n 1, 1) := dk_27 (dk_at dksX0_plate_3 13 rfl rfl)
theorem dX0_plate_86 : decode cX0_plate 86 = .ok (.aaload, 1) := dk_50 (dk_at dksX0_plate_3 14 rfl rfl)
theorem dX0_plate_87 : decode cX0_plate 87 = .ok (.iconst 0, 1) := dk_3 (dk_at dksX0_plate_3 15 rfl rfl)
theorem dX0_plate_88 : decode cX0_plate 88 = .ok (.iaload, 1) := dk_46 (dk_at dksX0_plate_3 16 rfl rfl)
theorem dX0_plate_89 : decode cX0_plate 89 = .ok (.if_icmp .eq 9, 3) := dk_159 0 9 (dk_at dksX0_plate_3 17 rfl rfl)
theorem dX0_plate_92 : decode cX0_plate 92 = .ok (.iinc 3 1, 3) := dk_132 3 1 (dk_at dksX0_plate_3 20 rfl rfl)
theorem dX0_plate_95 : decode cX0_plate 95 = .ok (.goto (-33), 3) := dk_167 255 223 (dk_at dksX0_plate_4 0 rfl rfl)
theorem dX0_plate_98 : decode cX0_plate 98 = .ok (.iload_n 3, 1) := dk_29 (dk_at dksX0_plate_4 3 rfl rfl)
theorem dX0_plate_99 : decode cX0_plate 99 = .ok (.ireturn, 1) := dk_172 (dk_at dksX0_plate_4 4 rfl rfl)
abbrev cX0_laysShares : ByteArray := prog_1_method_34_code
def yX0_laysShares : MethodName := ⟨RX0, "laysShares", "(I)V"⟩
def dkwX0_laysShares_5 : List UInt8 := [132, 4, 1, 167, 255, 156, 132, 3, 1, 167, 255, 142, 177]
abbrev dktX0_laysShares_5 : List UInt8 := dkwX0_laysShares_5 ++ []
def dkwX0_laysShares_4 : List UInt8 := [42, 180, 0, 44, 29, 4, 100, 50, 21, 5, 46, 184, 0, 65, 184, 0, 71, 79, 132, 5, 1, 167, 255, 200]
abbrev dktX0_laysShares_4 : List UInt8 := dkwX0_laysShares_4 ++ dktX0_laysShares_5
def dkwX0_laysShares_3 : List UInt8 := [180, 0, 44, 29, 50, 21, 4, 42, 180, 0, 44, 29, 50, 21, 4, 46, 42, 21, 4, 21, 5, 182, 1, 46]
abbrev dktX0_laysShares_3 : List UInt8 := dkwX0_laysShares_3 ++ dktX0_laysShares_4
def dkwX0_laysShares_2 : List UInt8 := [167, 0, 4, 2, 79, 21, 4, 4, 96, 54, 5, 21, 5, 28, 163, 0, 56, 29, 158, 0, 52, 42]
abbrev dktX0_laysShares_2 : List UInt8 := dkwX0_laysShares_2 ++ dktX0_laysShares_3
def dkwX0_laysShares_1 : List UInt8 := [163, 0, 100, 42, 180, 0, 44, 29, 50, 21, 4, 29, 154, 0, 15, 21, 4, 28, 160, 0, 9, 19, 1, 16]
abbrev dktX0_laysShares_1 : List UInt8 := dkwX0_laysShares_1 ++ dktX0_laysShares_2
def dkwX0_laysShares_0 : List UInt8 := [42, 180, 0, 20, 180, 1, 28, 180, 1, 43, 61, 3, 62, 29, 27, 163, 0, 115, 3, 54, 4, 21, 4, 28]
abbrev dktX0_laysShares_0 : List UInt8 := dkwX0_laysShares_0 ++ dktX0_laysShares_1
theorem dksX0_laysShares_0 : cX0_laysShares.data.toList.drop 0 = dktX0_laysShares_0 := by decide +kernel
theorem dksX0_laysShares_1 : cX0_laysShares.data.toList.drop 24 = dktX0_laysShares_1 := dk_seg dksX0_laysShares_0 24 rfl rfl
theorem dksX0_laysShares_2 : cX0_laysShares.data.toList.drop 48 = dktX0_laysShares_2 := dk_seg dksX0_laysShares_1 24 rfl rfl
theorem dksX0_laysShares_3 : cX0_laysShares.data.toList.drop 70 = dktX0_laysShares_3 := dk_seg dksX0_laysShares_2 22 rfl rfl
theorem dksX0_laysShares_4 : cX0_laysShares.data.toList.drop 94 = dktX0_laysShares_4 := dk_seg dksX0_laysShares_3 24 rfl rfl
theorem dksX0_laysShares_5 : cX0_laysShares.data.toList.drop 118 = dktX0_laysShares_5 := dk_seg dksX0_laysShares_4 24 rfl rfl
theorem dX0_laysShares_0 : decode cX0_laysShares 0 = .ok (.aload_n 0, 1) := dk_42 (dk_at dksX0_laysShares_0 0 rfl rfl)
theorem dX0_laysShares_1 : decode cX0_laysShares 1 = .ok (.getfield 20, 3) := dk_180 0 20 (dk_at dksX0_laysShares_0 1 rfl rfl)
theorem dX0_laysShares_4 : decode cX0_laysShares 4 = .ok (.getfield 284, 3) := dk_180 1 28 (dk_at dksX0_laysShares_0 4 rfl rfl)
theorem dX0_laysShares_7 : decode cX0_laysShares 7 = .ok (.getfield 299, 3) := dk_180 1 43 (dk_at dksX0_laysShares_0 7 rfl rfl)
theorem dX0_laysShares_10 : decode cX0_laysShares 10 = .ok (.istore_n 2, 1) := dk_61 (dk_at dksX0_laysShares_0 10 rfl rfl)
theorem dX0_laysShares_11 : decode cX0_laysShares 11 = .ok (.iconst 0, 1) := dk_3 (dk_at dksX0_laysShares_0 11 rfl rfl)
theorem dX0_laysShares_12 : decode cX0_laysShares 12 = .ok (.istore_n 3, 1) := dk_62 (dk_at dksX0_laysShares_0 12 rfl rfl)
theorem dX0_laysShares_13 : decode cX0_laysShares 13 = .ok (.iload_n 3, 1) := dk_29 (dk_at dksX0_laysShares_0 13 rfl rfl)
theorem dX0_laysShares_14 : decode cX0_laysShares 14 = .ok (.iload_n 1, 1) := dk_27 (dk_at dksX0_laysShares_0 14 rfl rfl)
theorem dX0_laysShares_15 : decode cX0_laysShares 15 = .ok (.if_icmp .gt 115, 3) := dk_163 0 115 (dk_at dksX0_laysShares_0 15 rfl rfl)
theorem dX0_laysShares_18 : decode cX0_laysShares 18 = .ok (.iconst 0, 1) := dk_3 (dk_at dksX0_laysShares_0 18 rfl rfl)
theorem dX0_laysShares_19 : decode cX0_laysShares 19 = .ok (.istore 4, 2) := dk_54 4 (dk_at dksX0_laysShares_0 19 rfl rfl)
theorem dX0_laysShares_21 : decode cX0_laysShares 21 = .ok (.iload 4, 2) := dk_21 4 (dk_at dksX0_laysShares_0 21 rfl rfl)
theorem dX0_laysShares_23 : decode cX0_laysShares 23 = .ok (.iload_n 2, 1) := dk_28 (dk_at dksX0_laysShares_0 23 rfl rfl)
theorem dX0_laysShares_24 : decode cX0_laysShares 24 = .ok (.if_icmp .gt 100, 3) := dk_163 0 100 (dk_at dksX0_laysShares_1 0 rfl rfl)
theorem dX0_laysShares_27 : decode cX0_laysShares 27 = .ok (.aload_n 0, 1) := dk_42 (dk_at dksX0_laysShares_1 3 rfl rfl)
theorem dX0_laysShares_28 : decode cX0_laysShares 28 = .ok (.getfield 44, 3) := dk_180 0 44 (dk_at dksX0_laysShares_1 4 rfl rfl)
theorem dX0_laysShares_31 : decode cX0_laysShares 31 = .ok (.iload_n 3, 1) := dk_29 (dk_at dksX0_laysShares_1 7 rfl rfl)
theorem dX0_laysShares_32 : decode cX0_laysShares 32 = .ok (.aaload, 1) := dk_50 (dk_at dksX0_laysShares_1 8 rfl rfl)
theorem dX0_laysShares_33 : decode cX0_laysShares 33 = .ok (.iload 4, 2) := dk_21 4 (dk_at dksX0_laysShares_1 9 rfl rfl)
theorem dX0_laysShares_35 : decode cX0_laysShares 35 = .ok (.iload_n 3, 1) := dk_29 (dk_at dksX0_laysShares_1 11 rfl rfl)
theorem dX0_laysShares_36 : decode cX0_laysShares 36 = .ok (.ifCond .ne 15, 3) := dk_154 0 15 (dk_at dksX0_laysShares_1 12 rfl rfl)
theorem dX0_laysShares_39 : decode cX0_laysShares 39 = .ok (.iload 4, 2) := dk_21 4 (dk_at dksX0_laysShares_1 15 rfl rfl)
theorem dX0_laysShares_41 : decode cX0_laysShares 41 = .ok (.iload_n 2, 1) := dk_28 (dk_at dksX0_laysShares_1 17 rfl rfl)
theorem dX0_laysShares_42 : decode cX0_laysShares 42 = .ok (.if_icmp .ne 9, 3) := dk_160 0 9 (dk_at dksX0_laysShares_1 18 rfl rfl)
theorem dX0_laysShares_45 : decode cX0_laysShares 45 = .ok (.ldc_w 272, 3) := dk_19 1 16 (dk_at dksX0_laysShares_1 21 rfl rfl)
theorem dX0_laysShares_48 : decode cX0_laysShares 48 = .ok (.goto 4, 3) := dk_167 0 4 (dk_at dksX0_laysShares_2 0 rfl rfl)
theorem dX0_laysShares_51 : decode cX0_laysShares 51 = .ok (.iconst (-1), 1) := dk_2 (dk_at dksX0_laysShares_2 3 rfl rfl)
theorem dX0_laysShares_52 : decode cX0_laysShares 52 = .ok (.iastore, 1) := dk_79 (dk_at dksX0_laysShares_2 4 rfl rfl)
theorem dX0_laysShares_53 : decode cX0_laysShares 53 = .ok (.iload 4, 2) := dk_21 4 (dk_at dksX0_laysShares_2 5 rfl rfl)
theorem dX0_laysShares_55 : decode cX0_laysShares 55 = .ok (.iconst 1, 1) := dk_4 (dk_at dksX0_laysShares_2 7 rfl rfl)
theorem dX0_laysShares_56 : decode cX0_laysShares 56 = .ok (.iadd, 1) := dk_96 (dk_at dksX0_laysShares_2 8 rfl rfl)
theorem dX0_laysShares_57 : decode cX0_laysShares 57 = .ok (.istore 5, 2) := dk_54 5 (dk_at dksX0_laysShares_2 9 rfl rfl)
theorem dX0_laysShares_59 : decode cX0_laysShares 59 = .ok (.iload 5, 2) := dk_21 5 (dk_at dksX0_laysShares_2 11 rfl rfl)
theorem dX0_laysShares_61 : decode cX0_laysShares 61 = .ok (.iload_n 2, 1) := dk_28 (dk_at dksX0_laysShares_2 13 rfl rfl)
theorem dX0_laysShares_62 : decode cX0_laysShares 62 = .ok (.if_icmp .gt 56, 3) := dk_163 0 56 (dk_at dksX0_laysShares_2 14 rfl rfl)
theorem dX0_laysShares_65 : decode cX0_laysShares 65 = .ok (.iload_n 3, 1) := dk_29 (dk_at dksX0_laysShares_2 17 rfl rfl)
theorem dX0_laysShares_66 : decode cX0_laysShares 66 = .ok (.ifCond .le 52, 3) := dk_158 0 52 (dk_at dksX0_laysShares_2 18 rfl rfl)
theorem dX0_laysShares_69 : decode cX0_laysShares 69 = .ok (.aload_n 0, 1) := dk_42 (dk_at dksX0_laysShares_2 21 rfl rfl)
theorem dX0_laysShares_70 : decode cX0_laysShares 70 = .ok (.getfield 44, 3) := dk_180 0 44 (dk_at dksX0_laysShares_3 0 rfl rfl)
theorem dX0_laysShares_73 : decode cX0_laysShares 73 = .ok (.iload_n 3, 1) := dk_29 (dk_at dksX0_laysShares_3 3 rfl rfl)
theorem dX0_laysShares_74 : decode cX0_laysShares 74 = .ok (.aaload, 1) := dk_50 (dk_at dksX0_laysShares_3 4 rfl rfl)
theorem dX0_laysShares_75 : decode cX0_laysShares 75 = .ok (.iload 4, 2) := dk_21 4 (dk_at dksX0_laysShares_3 5 rfl rfl)
theorem dX0_laysShares_77 : decode cX0_laysShares 77 = .ok (.aload_n 0, 1) := dk_42 (dk_at dksX0_laysShares_3 7 rfl rfl)
theorem dX0_laysShares_78 : decode cX0_laysShares 78 = .ok (.getfield 44, 3) := dk_180 0 44 (dk_at dksX0_laysShares_3 8 rfl rfl)
theorem dX0_laysShares_81 : decode cX0_laysShares 81 = .ok (.iload_n 3, 1) := dk_29 (dk_at dksX0_laysShares_3 11 rfl rfl)
theorem dX0_laysShares_82 : decode cX0_laysShares 82 = .ok (.aaload, 1) := dk_50 (dk_at dksX0_laysShares_3 12 rfl rfl)
theorem dX0_laysShares_83 : decode cX0_laysShares 83 = .ok (.iload 4, 2) := dk_21 4 (dk_at dksX0_laysShares_3 13 rfl rfl)
theorem dX0_laysShares_85 : decode cX0_laysShares 85 = .ok (.iaload, 1) := dk_46 (dk_at dksX0_laysShares_3 15 rfl rfl)
theorem dX0_laysShares_86 : decode cX0_laysShares 86 = .ok (.aload_n 0, 1) := dk_42 (dk_at dksX0_laysShares_3 16 rfl rfl)
theorem dX0_laysShares_87 : decode cX0_laysShares 87 = .ok (.iload 4, 2) := dk_21 4 (dk_at dksX0_laysShares_3 17 rfl rfl)
theorem dX0_laysShares_89 : decode cX0_laysShares 89 = .ok (.iload 5, 2) := dk_21 5 (dk_at dksX0_laysShares_3 19 rfl rfl)
theorem dX0_laysShares_91 : decode cX0_laysShares 91 = .ok (.invokevirtual 302, 3) := dk_182 1 46 (dk_at dksX0_laysShares_3 21 rfl rfl)
theorem dX0_laysShares_94 : decode cX0_laysShares 94 = .ok (.aload_n 0, 1) := dk_42 (dk_at dksX0_laysShares_4 0 rfl rfl)
theorem dX0_laysShares_95 : decode cX0_laysShares 95 = .ok (.getfield 44, 3) := dk_180 0 44 (dk_at dksX0_laysShares_4 1 rfl rfl)
theorem dX0_laysShares_98 : decode cX0_laysShares 98 = .ok (.iload_n 3, 1) := dk_29 (dk_at dksX0_laysShares_4 4 rfl rfl)
theorem dX0_laysShares_99 : decode cX0_laysShares 99 = .ok (.iconst 1, 1) := dk_4 (dk_at dksX0_laysShares_4 5 rfl rfl)
theorem dX0_laysShares_100 : decode cX0_laysShares 100 = .ok (.isub, 1) := dk_100 (dk_at dksX0_laysShares_4 6 rfl rfl)
theorem dX0_laysShares_101 : decode cX0_laysShares 101 = .ok (.aaload, 1) := dk_50 (dk_at dksX0_laysShares_4 7 rfl rfl)
theorem dX0_laysShares_102 : decode cX0_laysShares 102 = .ok (.iload 5, 2) := dk_21 5 (dk_at dksX0_laysShares_4 8 rfl rfl)
theorem dX0_laysShares_104 : decode cX0_laysShares 104 = .ok (.iaload, 1) := dk_46 (dk_at dksX0_laysShares_4 10 rfl rfl)
theorem dX0_laysShares_105 : decode cX0_laysShares 105 = .ok (.invokestatic 65, 3) := dk_184 0 65 (dk_at dksX0_laysShares_4 11 rfl rfl)
theorem dX0_laysShares_108 : decode cX0_laysShares 108 = .ok (.invokestatic 71, 3) := dk_184 0 71 (dk_at dksX0_laysShares_4 14 rfl rfl)
theorem dX0_laysShares_111 : decode cX0_laysShares 111 = .ok (.iastore, 1) := dk_79 (dk_at dksX0_laysShares_4 17 rfl rfl)
theorem dX0_laysShares_112 : decode cX0_laysShares 112 = .ok (.iinc 5 1, 3) := dk_132 5 1 (dk_at dksX0_laysShares_4 18 rfl rfl)
theorem dX0_laysShares_115 : decode cX0_laysShares 115 = .ok (.goto (-56), 3) := dk_167 255 200 (dk_at dksX0_laysShares_4 21 rfl rfl)
theorem dX0_laysShares_118 : decode cX0_laysShares 118 = .ok (.iinc 4 1, 3) := dk_132 4 1 (dk_at dksX0_laysShares_5 0 rfl rfl)
theorem dX0_laysShares_121 : decode cX0_laysShares 121 = .ok (.goto (-100), 3) := dk_167 255 156 (dk_at dksX0_laysShares_5 3 rfl rfl)
theorem dX0_laysShares_124 : decode cX0_laysShares 124 = .ok (.iinc 3 1, 3) := dk_132 3 1 (dk_at dksX0_laysShares_5 6 rfl rfl)
theorem dX0_laysShares_127 : decode cX0_laysShares 127 = .ok (.goto (-114), 3) := dk_167 255 142 (dk_at dksX0_laysShares_5 9 rfl rfl)
theorem dX0_laysShares_130 : decode cX0_laysShares 130 = .ok (.return_, 1) := dk_177 (dk_at dksX0_laysShares_5 12 rfl rfl)
abbrev cX0_share : ByteArray := prog_1_method_33_code
def yX0_share : MethodName := ⟨RX0, "share", "(II)I"⟩
def dkwX0_share_1 : List UInt8 := [96, 62, 132, 4, 1, 167, 255, 232, 29, 172]
abbrev dktX0_share_1 : List UInt8 := dkwX0_share_1 ++ []
def dkwX0_share_0 : List UInt8 := [3, 62, 27, 54, 4, 21, 4, 28, 162, 0, 24, 29, 42, 180, 0, 20, 180, 1, 28, 21, 4, 182, 1, 40]
abbrev dktX0_share_0 : List UInt8 := dkwX0_share_0 ++ dktX0_share_1
theorem dksX0_share_0 : cX0_share.data.toList.drop 0 = dktX0_share_0 := by decide +kernel
theorem dksX0_share_1 : cX0_share.data.toList.drop 24 = dktX0_share_1 := dk_seg dksX0_share_0 24 rfl rfl
theorem dX0_share_0 : decode cX0_share 0 = .ok (.iconst 0, 1) := dk_3 (dk_at dksX0_share_0 0 rfl rfl)
theorem dX0_share_1 : decode cX0_share 1 = .ok (.istore_n 3, 1) := dk_62 (dk_at dksX0_share_0 1 rfl rfl)
theorem dX0_share_2 : decode cX0_share 2 = .ok (.iload_n 1, 1) := dk_27 (dk_at dksX0_share_0 2 rfl rfl)
theorem dX0_share_3 : decode cX0_share 3 = .ok (.istore 4, 2) := dk_54 4 (dk_at dksX0_share_0 3 rfl rfl)
theorem dX0_share_5 : decode cX0_share 5 = .ok (.iload 4, 2) := dk_21 4 (dk_at dksX0_share_0 5 rfl rfl)
theorem dX0_share_7 : decode cX0_share 7 = .ok (.iload_n 2, 1) := dk_28 (dk_at dksX0_share_0 7 rfl rfl)
theorem dX0_share_8 : decode cX0_share 8 = .ok (.if_icmp .ge 24, 3) := dk_162 0 24 (dk_at dksX0_share_0 8 rfl rfl)
theorem dX0_share_11 : decode cX0_share 11 = .ok (.iload_n 3, 1) := dk_29 (dk_at dksX0_share_0 11 rfl rfl)
theorem dX0_share_12 : decode cX0_share 12 = .ok (.aload_n 0, 1) := dk_42 (dk_at dksX0_share_0 12 rfl rfl)
theorem dX0_share_13 : decode cX0_share 13 = .ok (.getfield 20, 3) := dk_180 0 20 (dk_at dksX0_share_0 13 rfl rfl)
theorem dX0_share_16 : decode cX0_share 16 = .ok (.getfield 284, 3) := dk_180 1 28 (dk_at dksX0_share_0 16 rfl rfl)
theorem dX0_share_19 : decode cX0_share 19 = .ok (.iload 4, 2) := dk_21 4 (dk_at dksX0_share_0 19 rfl rfl)
theorem dX0_share_21 : decode cX0_share 21 = .ok (.invokevirtual 296, 3) := dk_182 1 40 (dk_at dksX0_share_0 21 rfl rfl)
theorem dX0_share_24 : decode cX0_share 24 = .ok (.iadd, 1) := dk_96 (dk_at dksX0_share_1 0 rfl rfl)
theorem dX0_share_25 : decode cX0_share 25 = .ok (.istore_n 3, 1) := dk_62 (dk_at dksX0_share_1 1 rfl rfl)
theorem dX0_share_26 : decode cX0_share 26 = .ok (.iinc 4 1, 3) := dk_132 4 1 (dk_at dksX0_share_1 2 rfl rfl)
theorem dX0_share_29 : decode cX0_share 29 = .ok (.goto (-24), 3) := dk_167 255 232 (dk_at dksX0_share_1 5 rfl rfl)
theorem dX0_share_32 : decode cX0_share 32 = .ok (.iload_n 3, 1) := dk_29 (dk_at dksX0_share_1 8 rfl rfl)
theorem dX0_share_33 : decode cX0_share 33 = .ok (.ireturn, 1) := dk_172 (dk_at dksX0_share_1 9 rfl rfl)
abbrev cX0_dough : ByteArray := prog_1_method_36_code
def yX0_dough : MethodName := ⟨RX0, "dough", "(I)I"⟩
def dkwX0_dough_1 : List UInt8 := [184, 0, 81, 153, 0, 18, 42, 180, 0, 20, 180, 1, 52, 27, 3, 182, 1, 37, 167, 0, 4, 2, 172]
abbrev dktX0_dough_1 : List UInt8 := dkwX0_dough_1 ++ []
def dkwX0_dough_0 : List UInt8 := [27, 2, 160, 0, 16, 42, 180, 0, 20, 180, 1, 52, 182, 1, 32, 167, 0, 29, 27, 4, 16, 30]
abbrev dktX0_dough_0 : List UInt8 := dkwX0_dough_0 ++ dktX0_dough_1
theorem dksX0_dough_0 : cX0_dough.data.toList.drop 0 = dktX0_dough_0 := by decide +kernel
theorem dksX0_dough_1 : cX0_dough.data.toList.drop 22 = dktX0_dough_1 := dk_seg dksX0_dough_0 22 rfl rfl
theorem dX0_dough_0 : decode cX0_dough 0 = .ok (.iload_n 1, 1) := dk_27 (dk_at dksX0_dough_0 0 rfl rfl)
theorem dX0_dough_1 : decode cX0_dough 1 = .ok (.iconst (-1), 1) := dk_2 (dk_at dksX0_dough_0 1 rfl rfl)
theorem dX0_dough_2 : decode cX0_dough 2 = .ok (.if_icmp .ne 16, 3) := dk_160 0 16 (dk_at dksX0_dough_0 2 rfl rfl)
theorem dX0_dough_5 : decode cX0_dough 5 = .ok (.aload_n 0, 1) := dk_42 (dk_at dksX0_dough_0 5 rfl rfl)
theorem dX0_dough_6 : decode cX0_dough 6 = .ok (.getfield 20, 3) := dk_180 0 20 (dk_at dksX0_dough_0 6 rfl rfl)
theorem dX0_dough_9 : decode cX0_dough 9 = .ok (.getfield 308, 3) := dk_180 1 52 (dk_at dksX0_dough_0 9 rfl rfl)
theorem dX0_dough_12 : decode cX0_dough 12 = .ok (.invokevirtual 288, 3) := dk_182 1 32 (dk_at dksX0_dough_0 12 rfl rfl)
theorem dX0_dough_15 : decode cX0_dough 15 = .ok (.goto 29, 3) := dk_167 0 29 (dk_at dksX0_dough_0 15 rfl rfl)
theorem dX0_dough_18 : decode cX0_dough 18 = .ok (.iload_n 1, 1) := dk_27 (dk_at dksX0_dough_0 18 rfl rfl)
theorem dX0_dough_19 : decode cX0_dough 19 = .ok (.iconst 1, 1) := dk_4 (dk_at dksX0_dough_0 19 rfl rfl)
theorem dX0_dough_20 : decode cX0_dough 20 = .ok (.bipush 30, 2) := dk_16 30 (dk_at dksX0_dough_0 20 rfl rfl)
theorem dX0_dough_22 : decode cX0_dough 22 = .ok (.invokestatic 81, 3) := dk_184 0 81 (dk_at dksX0_dough_1 0 rfl rfl)
theorem dX0_dough_25 : decode cX0_dough 25 = .ok (.ifCond .eq 18, 3) := dk_153 0 18 (dk_at dksX0_dough_1 3 rfl rfl)
theorem dX0_dough_28 : decode cX0_dough 28 = .ok (.aload_n 0, 1) := dk_42 (dk_at dksX0_dough_1 6 rfl rfl)
theorem dX0_dough_29 : decode cX0_dough 29 = .ok (.getfield 20, 3) := dk_180 0 20 (dk_at dksX0_dough_1 7 rfl rfl)
theorem dX0_dough_32 : decode cX0_dough 32 = .ok (.getfield 308, 3) := dk_180 1 52 (dk_at dksX0_dough_1 10 rfl rfl)
theorem dX0_dough_35 : decode cX0_dough 35 = .ok (.iload_n 1, 1) := dk_27 (dk_at dksX0_dough_1 13 rfl rfl)
theorem dX0_dough_36 : decode cX0_dough 36 = .ok (.iconst 0, 1) := dk_3 (dk_at dksX0_dough_1 14 rfl rfl)
theorem dX0_dough_37 : decode cX0_dough 37 = .ok (.invokevirtual 293, 3) := dk_182 1 37 (dk_at dksX0_dough_1 15 rfl rfl)
theorem dX0_dough_40 : decode cX0_dough 40 = .ok (.goto 4, 3) := dk_167 0 4 (dk_at dksX0_dough_1 18 rfl rfl)
theorem dX0_dough_43 : decode cX0_dough 43 = .ok (.iconst (-1), 1) := dk_2 (dk_at dksX0_dough_1 21 rfl rfl)
theorem dX0_dough_44 : decode cX0_dough 44 = .ok (.ireturn, 1) := dk_172 (dk_at dksX0_dough_1 22 rfl rfl)
abbrev cX0_pans : ByteArray := prog_1_method_39_code
def yX0_pans : MethodName := ⟨RX0, "pans", "(II)I"⟩
def dkwX0_pans_7 : List UInt8 := [100, 21, 4, 126, 54, 5, 167, 255, 201, 132, 4, 1, 167, 255, 166, 42, 180, 0, 47, 29, 46, 172]
abbrev dktX0_pans_7 : List UInt8 := dkwX0_pans_7 ++ []
def dkwX0_pans_6 : List UInt8 := [21, 4, 46, 4, 42, 180, 0, 47, 21, 4, 21, 5, 2, 130, 126, 46, 96, 184, 0, 65, 79, 21, 5, 4]
abbrev dktX0_pans_6 : List UInt8 := dkwX0_pans_6 ++ dktX0_pans_7
def dkwX0_pans_5 : List UInt8 := [158, 0, 56, 42, 21, 5, 182, 1, 58, 27, 163, 0, 34, 42, 180, 0, 47, 21, 4, 42, 180, 0, 47]
abbrev dktX0_pans_5 : List UInt8 := dkwX0_pans_5 ++ dktX0_pans_6
def dkwX0_pans_4 : List UInt8 := [180, 0, 47, 21, 4, 21, 4, 154, 0, 7, 3, 167, 0, 6, 19, 1, 16, 79, 21, 4, 54, 5, 21, 5]
abbrev dktX0_pans_4 : List UInt8 := dkwX0_pans_4 ++ dktX0_pans_5
def dkwX0_pans_3 : List UInt8 := [42, 180, 0, 20, 180, 1, 52, 180, 1, 43, 120, 4, 100, 62, 3, 54, 4, 21, 4, 29, 163, 0, 90, 42]
abbrev dktX0_pans_3 : List UInt8 := dkwX0_pans_3 ++ dktX0_pans_4
def dkwX0_pans_2 : List UInt8 := [27, 164, 0, 5, 2, 172, 132, 3, 1, 167, 255, 222, 28, 4, 160, 0, 9, 42, 27, 182, 1, 55, 172, 4]
abbrev dktX0_pans_2 : List UInt8 := dkwX0_pans_2 ++ dktX0_pans_3
def dkwX0_pans_1 : List UInt8 := [42, 180, 0, 20, 180, 1, 52, 180, 1, 43, 162, 0, 26, 42, 180, 0, 20, 180, 1, 52, 29, 182, 1, 40]
abbrev dktX0_pans_1 : List UInt8 := dkwX0_pans_1 ++ dktX0_pans_2
def dkwX0_pans_0 : List UInt8 := [27, 4, 16, 60, 184, 0, 81, 153, 0, 12, 28, 3, 4, 184, 0, 81, 154, 0, 5, 2, 172, 3, 62, 29]
abbrev dktX0_pans_0 : List UInt8 := dkwX0_pans_0 ++ dktX0_pans_1
theorem dksX0_pans_0 : cX0_pans.data.toList.drop 0 = dktX0_pans_0 := by decide +kernel
theorem dksX0_pans_1 : cX0_pans.data.toList.drop 24 = dktX0_pans_1 := dk_seg dksX0_pans_0 24 rfl rfl
theorem dksX0_pans_2 : cX0_pans.data.toList.drop 48 = dktX0_pans_2 := dk_seg dksX0_pans_1 24 rfl rfl
theorem dksX0_pans_3 : cX0_pans.data.toList.drop 72 = dktX0_pans_3 := dk_seg dksX0_pans_2 24 rfl rfl
theorem dksX0_pans_4 : cX0_pans.data.toList.drop 96 = dktX0_pans_4 := dk_seg dksX0_pans_3 24 rfl rfl
theorem dksX0_pans_5 : cX0_pans.data.toList.drop 120 = dktX0_pans_5 := dk_seg dksX0_pans_4 24 rfl rfl
theorem dksX0_pans_6 : cX0_pans.data.toList.drop 143 = dktX0_pans_6 := dk_seg dksX0_pans_5 23 rfl rfl
theorem dksX0_pans_7 : cX0_pans.data.toList.drop 167 = dktX0_pans_7 := dk_seg dksX0_pans_6 24 rfl rfl
theorem dX0_pans_0 : decode cX0_pans 0 = .ok (.iload_n 1, 1) := dk_27 (dk_at dksX0_pans_0 0 rfl rfl)
theorem dX0_pans_1 : decode cX0_pans 1 = .ok (.iconst 1, 1) := dk_4 (dk_at dksX0_pans_0 1 rfl rfl)
theorem dX0_pans_2 : decode cX0_pans 2 = .ok (.bipush 60, 2) := dk_16 60 (dk_at dksX0_pans_0 2 rfl rfl)
theorem dX0_pans_4 : decode cX0_pans 4 = .ok (.invokestatic 81, 3) := dk_184 0 81 (dk_at dksX0_pans_0 4 rfl rfl)
theorem dX0_pans_7 : decode cX0_pans 7 = .ok (.ifCond .eq 12, 3) := dk_153 0 12 (dk_at dksX0_pans_0 7 rfl rfl)
theorem dX0_pans_10 : decode cX0_pans 10 = .ok (.iload_n 2, 1) := dk_28 (dk_at dksX0_pans_0 10 rfl rfl)
theorem dX0_pans_11 : decode cX0_pans 11 = .ok (.iconst 0, 1) := dk_3 (dk_at dksX0_pans_0 11 rfl rfl)
theorem dX0_pans_12 : decode cX0_pans 12 = .ok (.iconst 1, 1) := dk_4 (dk_at dksX0_pans_0 12 rfl rfl)
theorem dX0_pans_13 : decode cX0_pans 13 = .ok (.invokestatic 81, 3) := dk_184 0 81 (dk_at dksX0_pans_0 13 rfl rfl)
theorem dX0_pans_16 : decode cX0_pans 16 = .ok (.ifCond .ne 5, 3) := dk_154 0 5 (dk_at dksX0_pans_0 16 rfl rfl)
theorem dX0_pans_19 : decode cX0_pans 19 = .ok (.iconst (-1), 1) := dk_2 (dk_at dksX0_pans_0 19 rfl rfl)
theorem dX0_pans_20 : decode cX0_pans 20 = .ok (.ireturn, 1) := dk_172 (dk_at dksX0_pans_0 20 rfl rfl)
theorem dX0_pans_21 : decode cX0_pans 21 = .ok (.iconst 0, 1) := dk_3 (dk_at dksX0_pans_0 21 rfl rfl)
theorem dX0_pans_22 : decode cX0_pans 22 = .ok (.istore_n 3, 1) := dk_62 (dk_at dksX0_pans_0 22 rfl rfl)
theorem dX0_pans_23 : decode cX0_pans 23 = .ok (.iload_n 3, 1) := dk_29 (dk_at dksX0_pans_0 23 rfl rfl)
theorem dX0_pans_24 : decode cX0_pans 24 = .ok (.aload_n 0, 1) := dk_42 (dk_at dksX0_pans_1 0 rfl rfl)
theorem dX0_pans_25 : decode cX0_pans 25 = .ok (.getfield 20, 3) := dk_180 0 20 (dk_at dksX0_pans_1 1 rfl rfl)
theorem dX0_pans_28 : decode cX0_pans 28 = .ok (.getfield 308, 3) := dk_180 1 52 (dk_at dksX0_pans_1 4 rfl rfl)
theorem dX0_pans_31 : decode cX0_pans 31 = .ok (.getfield 299, 3) := dk_180 1 43 (dk_at dksX0_pans_1 7 rfl rfl)
theorem dX0_pans_34 : decode cX0_pans 34 = .ok (.if_icmp .ge 26, 3) := dk_162 0 26 (dk_at dksX0_pans_1 10 rfl rfl)
theorem dX0_pans_37 : decode cX0_pans 37 = .ok (.aload_n 0, 1) := dk_42 (dk_at dksX0_pans_1 13 rfl rfl)
theorem dX0_pans_38 : decode cX0_pans 38 = .ok (.getfield 20, 3) := dk_180 0 20 (dk_at dksX0_pans_1 14 rfl rfl)
theorem dX0_pans_41 : decode cX0_pans 41 = .ok (.getfield 308, 3) := dk_180 1 52 (dk_at dksX0_pans_1 17 rfl rfl)
theorem dX0_pans_44 : decode cX0_pans 44 = .ok (.iload_n 3, 1) := dk_29 (dk_at dksX0_pans_1 20 rfl rfl)
theorem dX0_pans_45 : decode cX0_pans 45 = .ok (.invokevirtual 296, 3) := dk_182 1 40 (dk_at dksX0_pans_1 21 rfl rfl)
theorem dX0_pans_48 : decode cX0_pans 48 = .ok (.iload_n 1, 1) := dk_27 (dk_at dksX0_pans_2 0 rfl rfl)
theorem dX0_pans_49 : decode cX0_pans 49 = .ok (.if_icmp .le 5, 3) := dk_164 0 5 (dk_at dksX0_pans_2 1 rfl rfl)
theorem dX0_pans_52 : decode cX0_pans 52 = .ok (.iconst (-1), 1) := dk_2 (dk_at dksX0_pans_2 4 rfl rfl)
theorem dX0_pans_53 : decode cX0_pans 53 = .ok (.ireturn, 1) := dk_172 (dk_at dksX0_pans_2 5 rfl rfl)
theorem dX0_pans_54 : decode cX0_pans 54 = .ok (.iinc 3 1, 3) := dk_132 3 1 (dk_at dksX0_pans_2 6 rfl rfl)
theorem dX0_pans_57 : decode cX0_pans 57 = .ok (.goto (-34), 3) := dk_167 255 222 (dk_at dksX0_pans_2 9 rfl rfl)
theorem dX0_pans_60 : decode cX0_pans 60 = .ok (.iload_n 2, 1) := dk_28 (dk_at dksX0_pans_2 12 rfl rfl)
theorem dX0_pans_61 : decode cX0_pans 61 = .ok (.iconst 1, 1) := dk_4 (dk_at dksX0_pans_2 13 rfl rfl)
theorem dX0_pans_62 : decode cX0_pans 62 = .ok (.if_icmp .ne 9, 3) := dk_160 0 9 (dk_at dksX0_pans_2 14 rfl rfl)
theorem dX0_pans_65 : decode cX0_pans 65 = .ok (.aload_n 0, 1) := dk_42 (dk_at dksX0_pans_2 17 rfl rfl)
theorem dX0_pans_66 : decode cX0_pans 66 = .ok (.iload_n 1, 1) := dk_27 (dk_at dksX0_pans_2 18 rfl rfl)
theorem dX0_pans_67 : decode cX0_pans 67 = .ok (.invokevirtual 311, 3) := dk_182 1 55 (dk_at dksX0_pans_2 19 rfl rfl)
theorem dX0_pans_70 : decode cX0_pans 70 = .ok (.ireturn, 1) := dk_172 (dk_at dksX0_pans_2 22 rfl rfl)
theorem dX0_pans_71 : decode cX0_pans 71 = .ok (.iconst 1, 1) := dk_4 (dk_at dksX0_pans_2 23 rfl rfl)
theorem dX0_pans_72 : decode cX0_pans 72 = .ok (.aload_n 0, 1) := dk_42 (dk_at dksX0_pans_3 0 rfl rfl)
theorem dX0_pans_73 : decode cX0_pans 73 = .ok (.getfield 20, 3) := dk_180 0 20 (dk_at dksX0_pans_3 1 rfl rfl)
theorem dX0_pans_76 : decode cX0_pans 76 = .ok (.getfield 308, 3) := dk_180 1 52 (dk_at dksX0_pans_3 4 rfl rfl)
theorem dX0_pans_79 : decode cX0_pans 79 = .ok (.getfield 299, 3) := dk_180 1 43 (dk_at dksX0_pans_3 7 rfl rfl)
theorem dX0_pans_82 : decode cX0_pans 82 = .ok (.ishl, 1) := dk_120 (dk_at dksX0_pans_3 10 rfl rfl)
theorem dX0_pans_83 : decode cX0_pans 83 = .ok (.iconst 1, 1) := dk_4 (dk_at dksX0_pans_3 11 rfl rfl)
theorem dX0_pans_84 : decode cX0_pans 84 = .ok (.isub, 1) := dk_100 (dk_at dksX0_pans_3 12 rfl rfl)
theorem dX0_pans_85 : decode cX0_pans 85 = .ok (.istore_n 3, 1) := dk_62 (dk_at dksX0_pans_3 13 rfl rfl)
theorem dX0_pans_86 : decode cX0_pans 86 = .ok (.iconst 0, 1) := dk_3 (dk_at dksX0_pans_3 14 rfl rfl)
theorem dX0_pans_87 : decode cX0_pans 87 = .ok (.istore 4, 2) := dk_54 4 (dk_at dksX0_pans_3 15 rfl rfl)
theorem dX0_pans_89 : decode cX0_pans 89 = .ok (.iload 4, 2) := dk_21 4 (dk_at dksX0_pans_3 17 rfl rfl)
theorem dX0_pans_91 : decode cX0_pans 91 = .ok (.iload_n 3, 1) := dk_29 (dk_at dksX0_pans_3 19 rfl rfl)
theorem dX0_pans_92 : decode cX0_pans 92 = .ok (.if_icmp .gt 90, 3) := dk_163 0 90 (dk_at dksX0_pans_3 20 rfl rfl)
theorem dX0_pans_95 : decode cX0_pans 95 = .ok (.aload_n 0, 1) := dk_42 (dk_at dksX0_pans_3 23 rfl rfl)
theorem dX0_pans_96 : decode cX0_pans 96 = .ok (.getfield 47, 3) := dk_180 0 47 (dk_at dksX0_pans_4 0 rfl rfl)
theorem dX0_pans_99 : decode cX0_pans 99 = .ok (.iload 4, 2) := dk_21 4 (dk_at dksX0_pans_4 3 rfl rfl)
theorem dX0_pans_101 : decode cX0_pans 101 = .ok (.iload 4, 2) := dk_21 4 (dk_at dksX0_pans_4 5 rfl rfl)
theorem dX0_pans_103 : decode cX0_pans 103 = .ok (.ifCond .ne 7, 3) := dk_154 0 7 (dk_at dksX0_pans_4 7 rfl rfl)
theorem dX0_pans_106 : decode cX0_pans 106 = .ok (.iconst 0, 1) := dk_3 (dk_at dksX0_pans_4 10 rfl rfl)
theorem dX0_pans_107 : decode cX0_pans 107 = .ok (.goto 6, 3) := dk_167 0 6 (dk_at dksX0_pans_4 11 rfl rfl)
theorem dX0_pans_110 : decode cX0_pans 110 = .ok (.ldc_w 272, 3) := dk_19 1 16 (dk_at dksX0_pans_4 14 rfl rfl)
theorem dX0_pans_113 : decode cX0_pans 113 = .ok (.iastore, 1) := dk_79 (dk_at dksX0_pans_4 17 rfl rfl)
theorem dX0_pans_114 : decode cX0_pans 114 = .ok (.iload 4, 2) := dk_21 4 (dk_at dksX0_pans_4 18 rfl rfl)
theorem dX0_pans_116 : decode cX0_pans 116 = .ok (.istore 5, 2) := dk_54 5 (dk_at dksX0_pans_4 20 rfl rfl)
theorem dX0_pans_118 : decode cX0_pans 118 = .ok (.iload 5, 2) := dk_21 5 (dk_at dksX0_pans_4 22 rfl rfl)
theorem dX0_pans_120 : decode cX0_pans 120 = .ok (.ifCond .le 56, 3) := dk_158 0 56 (dk_at dksX0_pans_5 0 rfl rfl)
theorem dX0_pans_123 : decode cX0_pans 123 = .ok (.aload_n 0, 1) := dk_42 (dk_at dksX0_pans_5 3 rfl rfl)
theorem dX0_pans_124 : decode cX0_pans 124 = .ok (.iload 5, 2) := dk_21 5 (dk_at dksX0_pans_5 4 rfl rfl)
theorem dX0_pans_126 : decode cX0_pans 126 = .ok (.invokevirtual 314, 3) := dk_182 1 58 (dk_at dksX0_pans_5 6 rfl rfl)
theorem dX0_pans_129 : decode cX0_pans 129 = .ok (.iload_n 1, 1) := dk_27 (dk_at dksX0_pans_5 9 rfl rfl)
theorem dX0_pans_130 : decode cX0_pans 130 = .ok (.if_icmp .gt 34, 3) := dk_163 0 34 (dk_at dksX0_pans_5 10 rfl rfl)
theorem dX0_pans_133 : decode cX0_pans 133 = .ok (.aload_n 0, 1) := dk_42 (dk_at dksX0_pans_5 13 rfl rfl)
theorem dX0_pans_134 : decode cX0_pans 134 = .ok (.getfield 47, 3) := dk_180 0 47 (dk_at dksX0_pans_5 14 rfl rfl)
theorem dX0_pans_137 : decode cX0_pans 137 = .ok (.iload 4, 2) := dk_21 4 (dk_at dksX0_pans_5 17 rfl rfl)
theorem dX0_pans_139 : decode cX0_pans 139 = .ok (.aload_n 0, 1) := dk_42 (dk_at dksX0_pans_5 19 rfl rfl)
theorem dX0_pans_140 : decode cX0_pans 140 = .ok (.getfield 47, 3) := dk_180 0 47 (dk_at dksX0_pans_5 20 rfl rfl)
theorem dX0_pans_143 : decode cX0_pans 143 = .ok (.iload 4, 2) := dk_21 4 (dk_at dksX0_pans_6 0 rfl rfl)
theorem dX0_pans_145 : decode cX0_pans 145 = .ok (.iaload, 1) := dk_46 (dk_at dksX0_pans_6 2 rfl rfl)
theorem dX0_pans_146 : decode cX0_pans 146 = .ok (.iconst 1, 1) := dk_4 (dk_at dksX0_pans_6 3 rfl rfl)
theorem dX0_pans_147 : decode cX0_pans 147 = .ok (.aload_n 0, 1) := dk_42 (dk_at dksX0_pans_6 4 rfl rfl)
theorem dX0_pans_148 : decode cX0_pans 148 = .ok (.getfield 47, 3) := dk_180 0 47 (dk_at dksX0_pans_6 5 rfl rfl)
theorem dX0_pans_151 : decode cX0_pans 151 = .ok (.iload 4, 2) := dk_21 4 (dk_at dksX0_pans_6 8 rfl rfl)
theorem dX0_pans_153 : decode cX0_pans 153 = .ok (.iload 5, 2) := dk_21 5 (dk_at dksX0_pans_6 10 rfl rfl)
theorem dX0_pans_155 : decode cX0_pans 155 = .ok (.iconst (-1), 1) := dk_2 (dk_at dksX0_pans_6 12 rfl rfl)
theorem dX0_pans_156 : decode cX0_pans 156 = .ok (.ixor, 1) := dk_130 (dk_at dksX0_pans_6 13 rfl rfl)
theorem dX0_pans_157 : decode cX0_pans 157 = .ok (.iand, 1) := dk_126 (dk_at dksX0_pans_6 14 rfl rfl)
theorem dX0_pans_158 : decode cX0_pans 158 = .ok (.iaload, 1) := dk_46 (dk_at dksX0_pans_6 15 rfl rfl)
theorem dX0_pans_159 : decode cX0_pans 159 = .ok (.iadd, 1) := dk_96 (dk_at dksX0_pans_6 16 rfl rfl)
theorem dX0_pans_160 : decode cX0_pans 160 = .ok (.invokestatic 65, 3) := dk_184 0 65 (dk_at dksX0_pans_6 17 rfl rfl)
theorem dX0_pans_163 : decode cX0_pans 163 = .ok (.iastore, 1) := dk_79 (dk_at dksX0_pans_6 20 rfl rfl)
theorem dX0_pans_164 : decode cX0_pans 164 = .ok (.iload 5, 2) := dk_21 5 (dk_at dksX0_pans_6 21 rfl rfl)
theorem dX0_pans_166 : decode cX0_pans 166 = .ok (.iconst 1, 1) := dk_4 (dk_at dksX0_pans_6 23 rfl rfl)
theorem dX0_pans_167 : decode cX0_pans 167 = .ok (.isub, 1) := dk_100 (dk_at dksX0_pans_7 0 rfl rfl)
theorem dX0_pans_168 : decode cX0_pans 168 = .ok (.iload 4, 2) := dk_21 4 (dk_at dksX0_pans_7 1 rfl rfl)
theorem dX0_pans_170 : decode cX0_pans 170 = .ok (.iand, 1) := dk_126 (dk_at dksX0_pans_7 3 rfl rfl)
theorem dX0_pans_171 : decode cX0_pans 171 = .ok (.istore 5, 2) := dk_54 5 (dk_at dksX0_pans_7 4 rfl rfl)
theorem dX0_pans_173 : decode cX0_pans 173 = .ok (.goto (-55), 3) := dk_167 255 201 (dk_at dksX0_pans_7 6 rfl rfl)
theorem dX0_pans_176 : decode cX0_pans 176 = .ok (.iinc 4 1, 3) := dk_132 4 1 (dk_at dksX0_pans_7 9 rfl rfl)
theorem dX0_pans_179 : decode cX0_pans 179 = .ok (.goto (-90), 3) := dk_167 255 166 (dk_at dksX0_pans_7 12 rfl rfl)
theorem dX0_pans_182 : decode cX0_pans 182 = .ok (.aload_n 0, 1) := dk_42 (dk_at dksX0_pans_7 15 rfl rfl)
theorem dX0_pans_183 : decode cX0_pans 183 = .ok (.getfield 47, 3) := dk_180 0 47 (dk_at dksX0_pans_7 16 rfl rfl)
theorem dX0_pans_186 : decode cX0_pans 186 = .ok (.iload_n 3, 1) := dk_29 (dk_at dksX0_pans_7 19 rfl rfl)
theorem dX0_pans_187 : decode cX0_pans 187 = .ok (.iaload, 1) := dk_46 (dk_at dksX0_pans_7 20 rfl rfl)
theorem dX0_pans_188 : decode cX0_pans 188 = .ok (.ireturn, 1) := dk_172 (dk_at dksX0_pans_7 21 rfl rfl)
abbrev cX0_byFirst : ByteArray := prog_1_method_37_code
def yX0_byFirst : MethodName := ⟨RX0, "byFirst", "(I)I"⟩
def dkwX0_byFirst_4 : List UInt8 := [132, 4, 1, 167, 255, 171, 29, 172]
abbrev dktX0_byFirst_4 : List UInt8 := dkwX0_byFirst_4 ++ []
def dkwX0_byFirst_3 : List UInt8 := [79, 132, 3, 1, 44, 21, 5, 92, 46, 42, 180, 0, 20, 180, 1, 52, 21, 4, 182, 1, 40, 100, 79]
abbrev dktX0_byFirst_3 : List UInt8 := dkwX0_byFirst_3 ++ dktX0_byFirst_4
def dkwX0_byFirst_2 : List UInt8 := [21, 4, 182, 1, 40, 162, 0, 9, 132, 5, 1, 167, 255, 228, 21, 5, 29, 160, 0, 11, 44, 21, 5, 27]
abbrev dktX0_byFirst_2 : List UInt8 := dkwX0_byFirst_2 ++ dktX0_byFirst_3
def dkwX0_byFirst_1 : List UInt8 := [162, 0, 76, 3, 54, 5, 21, 5, 29, 162, 0, 28, 44, 21, 5, 46, 42, 180, 0, 20, 180, 1, 52]
abbrev dktX0_byFirst_1 : List UInt8 := dkwX0_byFirst_1 ++ dktX0_byFirst_2
def dkwX0_byFirst_0 : List UInt8 := [16, 8, 188, 10, 77, 3, 62, 3, 54, 4, 21, 4, 42, 180, 0, 20, 180, 1, 52, 180, 1, 43]
abbrev dktX0_byFirst_0 : List UInt8 := dkwX0_byFirst_0 ++ dktX0_byFirst_1
theorem dksX0_byFirst_0 : cX0_byFirst.data.toList.drop 0 = dktX0_byFirst_0 := by decide +kernel
theorem dksX0_byFirst_1 : cX0_byFirst.data.toList.drop 22 = dktX0_byFirst_1 := dk_seg dksX0_byFirst_0 22 rfl rfl
theorem dksX0_byFirst_2 : cX0_byFirst.data.toList.drop 45 = dktX0_byFirst_2 := dk_seg dksX0_byFirst_1 23 rfl rfl
theorem dksX0_byFirst_3 : cX0_byFirst.data.toList.drop 69 = dktX0_byFirst_3 := dk_seg dksX0_byFirst_2 24 rfl rfl
theorem dksX0_byFirst_4 : cX0_byFirst.data.toList.drop 92 = dktX0_byFirst_4 := dk_seg dksX0_byFirst_3 23 rfl rfl
theorem dX0_byFirst_0 : decode cX0_byFirst 0 = .ok (.bipush 8, 2) := dk_16 8 (dk_at dksX0_byFirst_0 0 rfl rfl)
theorem dX0_byFirst_2 : decode cX0_byFirst 2 = .ok (.newarray .int, 2) := dk_188_10 (dk_at dksX0_byFirst_0 2 rfl rfl)
theorem dX0_byFirst_4 : decode cX0_byFirst 4 = .ok (.astore_n 2, 1) := dk_77 (dk_at dksX0_byFirst_0 4 rfl rfl)
theorem dX0_byFirst_5 : decode cX0_byFirst 5 = .ok (.iconst 0, 1) := dk_3 (dk_at dksX0_byFirst_0 5 rfl rfl)
theorem dX0_byFirst_6 : decode cX0_byFirst 6 = .ok (.istore_n 3, 1) := dk_62 (dk_at dksX0_byFirst_0 6 rfl rfl)
theorem dX0_byFirst_7 : decode cX0_byFirst 7 = .ok (.iconst 0, 1) := dk_3 (dk_at dksX0_byFirst_0 7 rfl rfl)
theorem dX0_byFirst_8 : decode cX0_byFirst 8 = .ok (.istore 4, 2) := dk_54 4 (dk_at dksX0_byFirst_0 8 rfl rfl)
theorem dX0_byFirst_10 : decode cX0_byFirst 10 = .ok (.iload 4, 2) := dk_21 4 (dk_at dksX0_byFirst_0 10 rfl rfl)
theorem dX0_byFirst_12 : decode cX0_byFirst 12 = .ok (.aload_n 0, 1) := dk_42 (dk_at dksX0_byFirst_0 12 rfl rfl)
theorem dX0_byFirst_13 : decode cX0_byFirst 13 = .ok (.getfield 20, 3) := dk_180 0 20 (dk_at dksX0_byFirst_0 13 rfl rfl)
theorem dX0_byFirst_16 : decode cX0_byFirst 16 = .ok (.getfield 308, 3) := dk_180 1 52 (dk_at dksX0_byFirst_0 16 rfl rfl)
theorem dX0_byFirst_19 : decode cX0_byFirst 19 = .ok (.getfield 299, 3) := dk_180 1 43 (dk_at dksX0_byFirst_0 19 rfl rfl)
theorem dX0_byFirst_22 : decode cX0_byFirst 22 = .ok (.if_icmp .ge 76, 3) := dk_162 0 76 (dk_at dksX0_byFirst_1 0 rfl rfl)
theorem dX0_byFirst_25 : decode cX0_byFirst 25 = .ok (.iconst 0, 1) := dk_3 (dk_at dksX0_byFirst_1 3 rfl rfl)
theorem dX0_byFirst_26 : decode cX0_byFirst 26 = .ok (.istore 5, 2) := dk_54 5 (dk_at dksX0_byFirst_1 4 rfl rfl)
theorem dX0_byFirst_28 : decode cX0_byFirst 28 = .ok (.iload 5, 2) := dk_21 5 (dk_at dksX0_byFirst_1 6 rfl rfl)
theorem dX0_byFirst_30 : decode cX0_byFirst 30 = .ok (.iload_n 3, 1) := dk_29 (dk_at dksX0_byFirst_1 8 rfl rfl)
theorem dX0_byFirst_31 : decode cX0_byFirst 31 = .ok (.if_icmp .ge 28, 3) := dk_162 0 28 (dk_at dksX0_byFirst_1 9 rfl rfl)
theorem dX0_byFirst_34 : decode cX0_byFirst 34 = .ok (.aload_n 2, 1) := dk_44 (dk_at dksX0_byFirst_1 12 rfl rfl)
theorem dX0_byFirst_35 : decode cX0_byFirst 35 = .ok (.iload 5, 2) := dk_21 5 (dk_at dksX0_byFirst_1 13 rfl rfl)
theorem dX0_byFirst_37 : decode cX0_byFirst 37 = .ok (.iaload, 1) := dk_46 (dk_at dksX0_byFirst_1 15 rfl rfl)
theorem dX0_byFirst_38 : decode cX0_byFirst 38 = .ok (.aload_n 0, 1) := dk_42 (dk_at dksX0_byFirst_1 16 rfl rfl)
theorem dX0_byFirst_39 : decode cX0_byFirst 39 = .ok (.getfield 20, 3) := dk_180 0 20 (dk_at dksX0_byFirst_1 17 rfl rfl)
theorem dX0_byFirst_42 : decode cX0_byFirst 42 = .ok (.getfield 308, 3) := dk_180 1 52 (dk_at dksX0_byFirst_1 20 rfl rfl)
theorem dX0_byFirst_45 : decode cX0_byFirst 45 = .ok (.iload 4, 2) := dk_21 4 (dk_at dksX0_byFirst_2 0 rfl rfl)
theorem dX0_byFirst_47 : decode cX0_byFirst 47 = .ok (.invokevirtual 296, 3) := dk_182 1 40 (dk_at dksX0_byFirst_2 2 rfl rfl)
theorem dX0_byFirst_50 : decode cX0_byFirst 50 = .ok (.if_icmp .ge 9, 3) := dk_162 0 9 (dk_at dksX0_byFirst_2 5 rfl rfl)
theorem dX0_byFirst_53 : decode cX0_byFirst 53 = .ok (.iinc 5 1, 3) := dk_132 5 1 (dk_at dksX0_byFirst_2 8 rfl rfl)
theorem dX0_byFirst_56 : decode cX0_byFirst 56 = .ok (.goto (-28), 3) := dk_167 255 228 (dk_at dksX0_byFirst_2 11 rfl rfl)
theorem dX0_byFirst_59 : decode cX0_byFirst 59 = .ok (.iload 5, 2) := dk_21 5 (dk_at dksX0_byFirst_2 14 rfl rfl)
theorem dX0_byFirst_61 : decode cX0_byFirst 61 = .ok (.iload_n 3, 1) := dk_29 (dk_at dksX0_byFirst_2 16 rfl rfl)
theorem dX0_byFirst_62 : decode cX0_byFirst 62 = .ok (.if_icmp .ne 11, 3) := dk_160 0 11 (dk_at dksX0_byFirst_2 17 rfl rfl)
theorem dX0_byFirst_65 : decode cX0_byFirst 65 = .ok (.aload_n 2, 1) := dk_44 (dk_at dksX0_byFirst_2 20 rfl rfl)
theorem dX0_byFirst_66 : decode cX0_byFirst 66 = .ok (.iload 5, 2) := dk_21 5 (dk_at dksX0_byFirst_2 21 rfl rfl)
theorem dX0_byFirst_68 : decode cX0_byFirst 68 = .ok (.iload_n 1, 1) := dk_27 (dk_at dksX0_byFirst_2 23 rfl rfl)
theorem dX0_byFirst_69 : decode cX0_byFirst 69 = .ok (.iastore, 1) := dk_79 (dk_at dksX0_byFirst_3 0 rfl rfl)
theorem dX0_byFirst_70 : decode cX0_byFirst 70 = .ok (.iinc 3 1, 3) := dk_132 3 1 (dk_at dksX0_byFirst_3 1 rfl rfl)
theorem dX0_byFirst_73 : decode cX0_byFirst 73 = .ok (.aload_n 2, 1) := dk_44 (dk_at dksX0_byFirst_3 4 rfl rfl)
theorem dX0_byFirst_74 : decode cX0_byFirst 74 = .ok (.iload 5, 2) := dk_21 5 (dk_at dksX0_byFirst_3 5 rfl rfl)
theorem dX0_byFirst_76 : decode cX0_byFirst 76 = .ok (.dup2, 1) := dk_92 (dk_at dksX0_byFirst_3 7 rfl rfl)
theorem dX0_byFirst_77 : decode cX0_byFirst 77 = .ok (.iaload, 1) := dk_46 (dk_at dksX0_byFirst_3 8 rfl rfl)
theorem dX0_byFirst_78 : decode cX0_byFirst 78 = .ok (.aload_n 0, 1) := dk_42 (dk_at dksX0_byFirst_3 9 rfl rfl)
theorem dX0_byFirst_79 : decode cX0_byFirst 79 = .ok (.getfield 20, 3) := dk_180 0 20 (dk_at dksX0_byFirst_3 10 rfl rfl)
theorem dX0_byFirst_82 : decode cX0_byFirst 82 = .ok (.getfield 308, 3) := dk_180 1 52 (dk_at dksX0_byFirst_3 13 rfl rfl)
theorem dX0_byFirst_85 : decode cX0_byFirst 85 = .ok (.iload 4, 2) := dk_21 4 (dk_at dksX0_byFirst_3 16 rfl rfl)
theorem dX0_byFirst_87 : decode cX0_byFirst 87 = .ok (.invokevirtual 296, 3) := dk_182 1 40 (dk_at dksX0_byFirst_3 18 rfl rfl)
theorem dX0_byFirst_90 : decode cX0_byFirst 90 = .ok (.isub, 1) := dk_100 (dk_at dksX0_byFirst_3 21 rfl rfl)
theorem dX0_byFirst_91 : decode cX0_byFirst 91 = .ok (.iastore, 1) := dk_79 (dk_at dksX0_byFirst_3 22 rfl rfl)
theorem dX0_byFirst_92 : decode cX0_byFirst 92 = .ok (.iinc 4 1, 3) := dk_132 4 1 (dk_at dksX0_byFirst_4 0 rfl rfl)
theorem dX0_byFirst_95 : decode cX0_byFirst 95 = .ok (.goto (-85), 3) := dk_167 255 171 (dk_at dksX0_byFirst_4 3 rfl rfl)
theorem dX0_byFirst_98 : decode cX0_byFirst 98 = .ok (.iload_n 3, 1) := dk_29 (dk_at dksX0_byFirst_4 6 rfl rfl)
theorem dX0_byFirst_99 : decode cX0_byFirst 99 = .ok (.ireturn, 1) := dk_172 (dk_at dksX0_byFirst_4 7 rfl rfl)
abbrev cX0_doughOf : ByteArray := prog_1_method_38_code
def yX0_doughOf : MethodName := ⟨RX0, "doughOf", "(I)I"⟩
def dkwX0_doughOf_2 : List UInt8 := [167, 255, 212, 28, 172]
abbrev dktX0_doughOf_2 : List UInt8 := dkwX0_doughOf_2 ++ []
def dkwX0_doughOf_1 : List UInt8 := [4, 160, 0, 17, 42, 180, 0, 20, 180, 1, 52, 29, 182, 1, 40, 167, 0, 4, 3, 96, 61, 132, 3, 1]
abbrev dktX0_doughOf_1 : List UInt8 := dkwX0_doughOf_1 ++ dktX0_doughOf_2
def dkwX0_doughOf_0 : List UInt8 := [3, 61, 3, 62, 29, 42, 180, 0, 20, 180, 1, 52, 180, 1, 43, 162, 0, 36, 28, 27, 29, 122, 4, 126]
abbrev dktX0_doughOf_0 : List UInt8 := dkwX0_doughOf_0 ++ dktX0_doughOf_1
theorem dksX0_doughOf_0 : cX0_doughOf.data.toList.drop 0 = dktX0_doughOf_0 := by decide +kernel
theorem dksX0_doughOf_1 : cX0_doughOf.data.toList.drop 24 = dktX0_doughOf_1 := dk_seg dksX0_doughOf_0 24 rfl rfl
theorem dksX0_doughOf_2 : cX0_doughOf.data.toList.drop 48 = dktX0_doughOf_2 := dk_seg dksX0_doughOf_1 24 rfl rfl
theorem dX0_doughOf_0 : decode cX0_doughOf 0 = .ok (.iconst 0, 1) := dk_3 (dk_at dksX0_doughOf_0 0 rfl rfl)
theorem dX0_doughOf_1 : decode cX0_doughOf 1 = .ok (.istore_n 2, 1) := dk_61 (dk_at dksX0_doughOf_0 1 rfl rfl)
theorem dX0_doughOf_2 : decode cX0_doughOf 2 = .ok (.iconst 0, 1) := dk_3 (dk_at dksX0_doughOf_0 2 rfl rfl)
theorem dX0_doughOf_3 : decode cX0_doughOf 3 = .ok (.istore_n 3, 1) := dk_62 (dk_at dksX0_doughOf_0 3 rfl rfl)
theorem dX0_doughOf_4 : decode cX0_doughOf 4 = .ok (.iload_n 3, 1) := dk_29 (dk_at dksX0_doughOf_0 4 rfl rfl)
theorem dX0_doughOf_5 : decode cX0_doughOf 5 = .ok (.aload_n 0, 1) := dk_42 (dk_at dksX0_doughOf_0 5 rfl rfl)
theorem dX0_doughOf_6 : decode cX0_doughOf 6 = .ok (.getfield 20, 3) := dk_180 0 20 (dk_at dksX0_doughOf_0 6 rfl rfl)
theorem dX0_doughOf_9 : decode cX0_doughOf 9 = .ok (.getfield 308, 3) := dk_180 1 52 (dk_at dksX0_doughOf_0 9 rfl rfl)
theorem dX0_doughOf_12 : decode cX0_doughOf 12 = .ok (.getfield 299, 3) := dk_180 1 43 (dk_at dksX0_doughOf_0 12 rfl rfl)
theorem dX0_doughOf_15 : decode cX0_doughOf 15 = .ok (.if_icmp .ge 36, 3) := dk_162 0 36 (dk_at dksX0_doughOf_0 15 rfl rfl)
theorem dX0_doughOf_18 : decode cX0_doughOf 18 = .ok (.iload_n 2, 1) := dk_28 (dk_at dksX0_doughOf_0 18 rfl rfl)
theorem dX0_doughOf_19 : decode cX0_doughOf 19 = .ok (.iload_n 1, 1) := dk_27 (dk_at dksX0_doughOf_0 19 rfl rfl)
theorem dX0_doughOf_20 : decode cX0_doughOf 20 = .ok (.iload_n 3, 1) := dk_29 (dk_at dksX0_doughOf_0 20 rfl rfl)
theorem dX0_doughOf_21 : decode cX0_doughOf 21 = .ok (.ishr, 1) := dk_122 (dk_at dksX0_doughOf_0 21 rfl rfl)
theorem dX0_doughOf_22 : decode cX0_doughOf 22 = .ok (.iconst 1, 1) := dk_4 (dk_at dksX0_doughOf_0 22 rfl rfl)
theorem dX0_doughOf_23 : decode cX0_doughOf 23 = .ok (.iand, 1) := dk_126 (dk_at dksX0_doughOf_0 23 rfl rfl)
theorem dX0_doughOf_24 : decode cX0_doughOf 24 = .ok (.iconst 1, 1) := dk_4 (dk_at dksX0_doughOf_1 0 rfl rfl)
theorem dX0_doughOf_25 : decode cX0_doughOf 25 = .ok (.if_icmp .ne 17, 3) := dk_160 0 17 (dk_at dksX0_doughOf_1 1 rfl rfl)
theorem dX0_doughOf_28 : decode cX0_doughOf 28 = .ok (.aload_n 0, 1) := dk_42 (dk_at dksX0_doughOf_1 4 rfl rfl)
theorem dX0_doughOf_29 : decode cX0_doughOf 29 = .ok (.getfield 20, 3) := dk_180 0 20 (dk_at dksX0_doughOf_1 5 rfl rfl)
theorem dX0_doughOf_32 : decode cX0_doughOf 32 = .ok (.getfield 308, 3) := dk_180 1 52 (dk_at dksX0_doughOf_1 8 rfl rfl)
theorem dX0_doughOf_35 : decode cX0_doughOf 35 = .ok (.iload_n 3, 1) := dk_29 (dk_at dksX0_doughOf_1 11 rfl rfl)
theorem dX0_doughOf_36 : decode cX0_doughOf 36 = .ok (.invokevirtual 296, 3) := dk_182 1 40 (dk_at dksX0_doughOf_1 12 rfl rfl)
theorem dX0_doughOf_39 : decode cX0_doughOf 39 = .ok (.goto 4, 3) := dk_167 0 4 (dk_at dksX0_doughOf_1 15 rfl rfl)
theorem dX0_doughOf_42 : decode cX0_doughOf 42 = .ok (.iconst 0, 1) := dk_3 (dk_at dksX0_doughOf_1 18 rfl rfl)
theorem dX0_doughOf_43 : decode cX0_doughOf 43 = .ok (.iadd, 1) := dk_96 (dk_at dksX0_doughOf_1 19 rfl rfl)
theorem dX0_doughOf_44 : decode cX0_doughOf 44 = .ok (.istore_n 2, 1) := dk_61 (dk_at dksX0_doughOf_1 20 rfl rfl)
theorem dX0_doughOf_45 : decode cX0_doughOf 45 = .ok (.iinc 3 1, 3) := dk_132 3 1 (dk_at dksX0_doughOf_1 21 rfl rfl)
theorem dX0_doughOf_48 : decode cX0_doughOf 48 = .ok (.goto (-44), 3) := dk_167 255 212 (dk_at dksX0_doughOf_2 0 rfl rfl)
theorem dX0_doughOf_51 : decode cX0_doughOf 51 = .ok (.iload_n 2, 1) := dk_28 (dk_at dksX0_doughOf_2 3 rfl rfl)
theorem dX0_doughOf_52 : decode cX0_doughOf 52 = .ok (.ireturn, 1) := dk_172 (dk_at dksX0_doughOf_2 4 rfl rfl)
abbrev cX0_mortgage : ByteArray := prog_1_method_40_code
def yX0_mortgage : MethodName := ⟨RX0, "mortgage", "(IIII)I"⟩
def dkwX0_mortgage_5 : List UInt8 := [167, 0, 5, 21, 6, 172, 132, 7, 1, 167, 255, 182, 2, 172]
abbrev dktX0_mortgage_5 : List UInt8 := dkwX0_mortgage_5 ++ []
def dkwX0_mortgage_4 : List UInt8 := [21, 8, 100, 54, 5, 21, 6, 21, 8, 96, 54, 6, 21, 5, 154, 0, 16, 21, 4, 154, 0, 8, 21, 7]
abbrev dktX0_mortgage_4 : List UInt8 := dkwX0_mortgage_4 ++ dktX0_mortgage_5
def dkwX0_mortgage_3 : List UInt8 := [21, 5, 28, 104, 16, 99, 96, 16, 100, 108, 96, 54, 5, 29, 21, 5, 184, 0, 65, 54, 8, 21, 5]
abbrev dktX0_mortgage_3 : List UInt8 := dkwX0_mortgage_3 ++ dktX0_mortgage_4
def dkwX0_mortgage_2 : List UInt8 := [3, 54, 6, 4, 54, 7, 21, 7, 17, 1, 144, 163, 0, 72, 21, 5, 19, 1, 16, 162, 0, 64, 21, 5]
abbrev dktX0_mortgage_2 : List UInt8 := dkwX0_mortgage_2 ++ dktX0_mortgage_3
def dkwX0_mortgage_1 : List UInt8 := [17, 3, 231, 184, 0, 81, 153, 0, 13, 21, 4, 3, 4, 184, 0, 81, 154, 0, 5, 2, 172, 27, 54, 5]
abbrev dktX0_mortgage_1 : List UInt8 := dkwX0_mortgage_1 ++ dktX0_mortgage_2
def dkwX0_mortgage_0 : List UInt8 := [27, 4, 17, 39, 15, 184, 0, 81, 153, 0, 34, 28, 3, 16, 50, 184, 0, 81, 153, 0, 24, 29, 4]
abbrev dktX0_mortgage_0 : List UInt8 := dkwX0_mortgage_0 ++ dktX0_mortgage_1
theorem dksX0_mortgage_0 : cX0_mortgage.data.toList.drop 0 = dktX0_mortgage_0 := by decide +kernel
theorem dksX0_mortgage_1 : cX0_mortgage.data.toList.drop 23 = dktX0_mortgage_1 := dk_seg dksX0_mortgage_0 23 rfl rfl
theorem dksX0_mortgage_2 : cX0_mortgage.data.toList.drop 47 = dktX0_mortgage_2 := dk_seg dksX0_mortgage_1 24 rfl rfl
theorem dksX0_mortgage_3 : cX0_mortgage.data.toList.drop 71 = dktX0_mortgage_3 := dk_seg dksX0_mortgage_2 24 rfl rfl
theorem dksX0_mortgage_4 : cX0_mortgage.data.toList.drop 94 = dktX0_mortgage_4 := dk_seg dksX0_mortgage_3 23 rfl rfl
theorem dksX0_mortgage_5 : cX0_mortgage.data.toList.drop 118 = dktX0_mortgage_5 := dk_seg dksX0_mortgage_4 24 rfl rfl
theorem dX0_mortgage_0 : decode cX0_mortgage 0 = .ok (.iload_n 1, 1) := dk_27 (dk_at dksX0_mortgage_0 0 rfl rfl)
theorem dX0_mortgage_1 : decode cX0_mortgage 1 = .ok (.iconst 1, 1) := dk_4 (dk_at dksX0_mortgage_0 1 rfl rfl)
theorem dX0_mortgage_2 : decode cX0_mortgage 2 = .ok (.sipush 9999, 3) := dk_17 39 15 (dk_at dksX0_mortgage_0 2 rfl rfl)
theorem dX0_mortgage_5 : decode cX0_mortgage 5 = .ok (.invokestatic 81, 3) := dk_184 0 81 (dk_at dksX0_mortgage_0 5 rfl rfl)
theorem dX0_mortgage_8 : decode cX0_mortgage 8 = .ok (.ifCond .eq 34, 3) := dk_153 0 34 (dk_at dksX0_mortgage_0 8 rfl rfl)
theorem dX0_mortgage_11 : decode cX0_mortgage 11 = .ok (.iload_n 2, 1) := dk_28 (dk_at dksX0_mortgage_0 11 rfl rfl)
theorem dX0_mortgage_12 : decode cX0_mortgage 12 = .ok (.iconst 0, 1) := dk_3 (dk_at dksX0_mortgage_0 12 rfl rfl)
theorem dX0_mortgage_13 : decode cX0_mortgage 13 = .ok (.bipush 50, 2) := dk_16 50 (dk_at dksX0_mortgage_0 13 rfl rfl)
theorem dX0_mortgage_15 : decode cX0_mortgage 15 = .ok (.invokestatic 81, 3) := dk_184 0 81 (dk_at dksX0_mortgage_0 15 rfl rfl)
theorem dX0_mortgage_18 : decode cX0_mortgage 18 = .ok (.ifCond .eq 24, 3) := dk_153 0 24 (dk_at dksX0_mortgage_0 18 rfl rfl)
theorem dX0_mortgage_21 : decode cX0_mortgage 21 = .ok (.iload_n 3, 1) := dk_29 (dk_at dksX0_mortgage_0 21 rfl rfl)
theorem dX0_mortgage_22 : decode cX0_mortgage 22 = .ok (.iconst 1, 1) := dk_4 (dk_at dksX0_mortgage_0 22 rfl rfl)
theorem dX0_mortgage_23 : decode cX0_mortgage 23 = .ok (.sipush 999, 3) := dk_17 3 231 (dk_at dksX0_mortgage_1 0 rfl rfl)
theorem dX0_mortgage_26 : decode cX0_mortgage 26 = .ok (.invokestatic 81, 3) := dk_184 0 81 (dk_at dksX0_mortgage_1 3 rfl rfl)
theorem dX0_mortgage_29 : decode cX0_mortgage 29 = .ok (.ifCond .eq 13, 3) := dk_153 0 13 (dk_at dksX0_mortgage_1 6 rfl rfl)
theorem dX0_mortgage_32 : decode cX0_mortgage 32 = .ok (.iload 4, 2) := dk_21 4 (dk_at dksX0_mortgage_1 9 rfl rfl)
theorem dX0_mortgage_34 : decode cX0_mortgage 34 = .ok (.iconst 0, 1) := dk_3 (dk_at dksX0_mortgage_1 11 rfl rfl)
theorem dX0_mortgage_35 : decode cX0_mortgage 35 = .ok (.iconst 1, 1) := dk_4 (dk_at dksX0_mortgage_1 12 rfl rfl)
theorem dX0_mortgage_36 : decode cX0_mortgage 36 = .ok (.invokestatic 81, 3) := dk_184 0 81 (dk_at dksX0_mortgage_1 13 rfl rfl)
theorem dX0_mortgage_39 : decode cX0_mortgage 39 = .ok (.ifCond .ne 5, 3) := dk_154 0 5 (dk_at dksX0_mortgage_1 16 rfl rfl)
theorem dX0_mortgage_42 : decode cX0_mortgage 42 = .ok (.iconst (-1), 1) := dk_2 (dk_at dksX0_mortgage_1 19 rfl rfl)
theorem dX0_mortgage_43 : decode cX0_mortgage 43 = .ok (.ireturn, 1) := dk_172 (dk_at dksX0_mortgage_1 20 rfl rfl)
theorem dX0_mortgage_44 : decode cX0_mortgage 44 = .ok (.iload_n 1, 1) := dk_27 (dk_at dksX0_mortgage_1 21 rfl rfl)
theorem dX0_mortgage_45 : decode cX0_mortgage 45 = .ok (.istore 5, 2) := dk_54 5 (dk_at dksX0_mortgage_1 22 rfl rfl)
theorem dX0_mortgage_47 : decode cX0_mortgage 47 = .ok (.iconst 0, 1) := dk_3 (dk_at dksX0_mortgage_2 0 rfl rfl)
theorem dX0_mortgage_48 : decode cX0_mortgage 48 = .ok (.istore 6, 2) := dk_54 6 (dk_at dksX0_mortgage_2 1 rfl rfl)
theorem dX0_mortgage_50 : decode cX0_mortgage 50 = .ok (.iconst 1, 1) := dk_4 (dk_at dksX0_mortgage_2 3 rfl rfl)
theorem dX0_mortgage_51 : decode cX0_mortgage 51 = .ok (.istore 7, 2) := dk_54 7 (dk_at dksX0_mortgage_2 4 rfl rfl)
theorem dX0_mortgage_53 : decode cX0_mortgage 53 = .ok (.iload 7, 2) := dk_21 7 (dk_at dksX0_mortgage_2 6 rfl rfl)
theorem dX0_mortgage_55 : decode cX0_mortgage 55 = .ok (.sipush 400, 3) := dk_17 1 144 (dk_at dksX0_mortgage_2 8 rfl rfl)
theorem dX0_mortgage_58 : decode cX0_mortgage 58 = .ok (.if_icmp .gt 72, 3) := dk_163 0 72 (dk_at dksX0_mortgage_2 11 rfl rfl)
theorem dX0_mortgage_61 : decode cX0_mortgage 61 = .ok (.iload 5, 2) := dk_21 5 (dk_at dksX0_mortgage_2 14 rfl rfl)
theorem dX0_mortgage_63 : decode cX0_mortgage 63 = .ok (.ldc_w 272, 3) := dk_19 1 16 (dk_at dksX0_mortgage_2 16 rfl rfl)
theorem dX0_mortgage_66 : decode cX0_mortgage 66 = .ok (.if_icmp .ge 64, 3) := dk_162 0 64 (dk_at dksX0_mortgage_2 19 rfl rfl)
theorem dX0_mortgage_69 : decode cX0_mortgage 69 = .ok (.iload 5, 2) := dk_21 5 (dk_at dksX0_mortgage_2 22 rfl rfl)
theorem dX0_mortgage_71 : decode cX0_mortgage 71 = .ok (.iload 5, 2) := dk_21 5 (dk_at dksX0_mortgage_3 0 rfl rfl)
theorem dX0_mortgage_73 : decode cX0_mortgage 73 = .ok (.iload_n 2, 1) := dk_28 (dk_at dksX0_mortgage_3 2 rfl rfl)
theorem dX0_mortgage_74 : decode cX0_mortgage 74 = .ok (.imul, 1) := dk_104 (dk_at dksX0_mortgage_3 3 rfl rfl)
theorem dX0_mortgage_75 : decode cX0_mortgage 75 = .ok (.bipush 99, 2) := dk_16 99 (dk_at dksX0_mortgage_3 4 rfl rfl)
theorem dX0_mortgage_77 : decode cX0_mortgage 77 = .ok (.iadd, 1) := dk_96 (dk_at dksX0_mortgage_3 6 rfl rfl)
theorem dX0_mortgage_78 : decode cX0_mortgage 78 = .ok (.bipush 100, 2) := dk_16 100 (dk_at dksX0_mortgage_3 7 rfl rfl)
theorem dX0_mortgage_80 : decode cX0_mortgage 80 = .ok (.idiv, 1) := dk_108 (dk_at dksX0_mortgage_3 9 rfl rfl)
theorem dX0_mortgage_81 : decode cX0_mortgage 81 = .ok (.iadd, 1) := dk_96 (dk_at dksX0_mortgage_3 10 rfl rfl)
theorem dX0_mortgage_82 : decode cX0_mortgage 82 = .ok (.istore 5, 2) := dk_54 5 (dk_at dksX0_mortgage_3 11 rfl rfl)
theorem dX0_mortgage_84 : decode cX0_mortgage 84 = .ok (.iload_n 3, 1) := dk_29 (dk_at dksX0_mortgage_3 13 rfl rfl)
theorem dX0_mortgage_85 : decode cX0_mortgage 85 = .ok (.iload 5, 2) := dk_21 5 (dk_at dksX0_mortgage_3 14 rfl rfl)
theorem dX0_mortgage_87 : decode cX0_mortgage 87 = .ok (.invokestatic 65, 3) := dk_184 0 65 (dk_at dksX0_mortgage_3 16 rfl rfl)
theorem dX0_mortgage_90 : decode cX0_mortgage 90 = .ok (.istore 8, 2) := dk_54 8 (dk_at dksX0_mortgage_3 19 rfl rfl)
theorem dX0_mortgage_92 : decode cX0_mortgage 92 = .ok (.iload 5, 2) := dk_21 5 (dk_at dksX0_mortgage_3 21 rfl rfl)
theorem dX0_mortgage_94 : decode cX0_mortgage 94 = .ok (.iload 8, 2) := dk_21 8 (dk_at dksX0_mortgage_4 0 rfl rfl)
theorem dX0_mortgage_96 : decode cX0_mortgage 96 = .ok (.isub, 1) := dk_100 (dk_at dksX0_mortgage_4 2 rfl rfl)
theorem dX0_mortgage_97 : decode cX0_mortgage 97 = .ok (.istore 5, 2) := dk_54 5 (dk_at dksX0_mortgage_4 3 rfl rfl)
theorem dX0_mortgage_99 : decode cX0_mortgage 99 = .ok (.iload 6, 2) := dk_21 6 (dk_at dksX0_mortgage_4 5 rfl rfl)
theorem dX0_mortgage_101 : decode cX0_mortgage 101 = .ok (.iload 8, 2) := dk_21 8 (dk_at dksX0_mortgage_4 7 rfl rfl)
theorem dX0_mortgage_103 : decode cX0_mortgage 103 = .ok (.iadd, 1) := dk_96 (dk_at dksX0_mortgage_4 9 rfl rfl)
theorem dX0_mortgage_104 : decode cX0_mortgage 104 = .ok (.istore 6, 2) := dk_54 6 (dk_at dksX0_mortgage_4 10 rfl rfl)
theorem dX0_mortgage_106 : decode cX0_mortgage 106 = .ok (.iload 5, 2) := dk_21 5 (dk_at dksX0_mortgage_4 12 rfl rfl)
theorem dX0_mortgage_108 : decode cX0_mortgage 108 = .ok (.ifCond .ne 16, 3) := dk_154 0 16 (dk_at dksX0_mortgage_4 14 rfl rfl)
theorem dX0_mortgage_111 : decode cX0_mortgage 111 = .ok (.iload 4, 2) := dk_21 4 (dk_at dksX0_mortgage_4 17 rfl rfl)
theorem dX0_mortgage_113 : decode cX0_mortgage 113 = .ok (.ifCond .ne 8, 3) := dk_154 0 8 (dk_at dksX0_mortgage_4 19 rfl rfl)
theorem dX0_mortgage_116 : decode cX0_mortgage 116 = .ok (.iload 7, 2) := dk_21 7 (dk_at dksX0_mortgage_4 22 rfl rfl)
theorem dX0_mortgage_118 : decode cX0_mortgage 118 = .ok (.goto 5, 3) := dk_167 0 5 (dk_at dksX0_mortgage_5 0 rfl rfl)
theorem dX0_mortgage_121 : decode cX0_mortgage 121 = .ok (.iload 6, 2) := dk_21 6 (dk_at dksX0_mortgage_5 3 rfl rfl)
theorem dX0_mortgage_123 : decode cX0_mortgage 123 = .ok (.ireturn, 1) := dk_172 (dk_at dksX0_mortgage_5 5 rfl rfl)
theorem dX0_mortgage_124 : decode cX0_mortgage 124 = .ok (.iinc 7 1, 3) := dk_132 7 1 (dk_at dksX0_mortgage_5 6 rfl rfl)
theorem dX0_mortgage_127 : decode cX0_mortgage 127 = .ok (.goto (-74), 3) := dk_167 255 182 (dk_at dksX0_mortgage_5 9 rfl rfl)
theorem dX0_mortgage_130 : decode cX0_mortgage 130 = .ok (.iconst (-1), 1) := dk_2 (dk_at dksX0_mortgage_5 12 rfl rfl)
theorem dX0_mortgage_131 : decode cX0_mortgage 131 = .ok (.ireturn, 1) := dk_172 (dk_at dksX0_mortgage_5 13 rfl rfl)
abbrev cX0_mark : ByteArray := prog_1_method_41_code
def yX0_mark : MethodName := ⟨RX0, "mark", "(I)I"⟩
def dkwX0_mark_1 : List UInt8 := [184, 0, 81, 153, 0, 18, 42, 180, 0, 20, 180, 1, 61, 27, 3, 182, 1, 37, 167, 0, 4, 2, 172]
abbrev dktX0_mark_1 : List UInt8 := dkwX0_mark_1 ++ []
def dkwX0_mark_0 : List UInt8 := [27, 2, 160, 0, 16, 42, 180, 0, 20, 180, 1, 61, 182, 1, 32, 167, 0, 29, 27, 4, 16, 60]
abbrev dktX0_mark_0 : List UInt8 := dkwX0_mark_0 ++ dktX0_mark_1
theorem dksX0_mark_0 : cX0_mark.data.toList.drop 0 = dktX0_mark_0 := by decide +kernel
theorem dksX0_mark_1 : cX0_mark.data.toList.drop 22 = dktX0_mark_1 := dk_seg dksX0_mark_0 22 rfl rfl
theorem dX0_mark_0 : decode cX0_mark 0 = .ok (.iload_n 1, 1) := dk_27 (dk_at dksX0_mark_0 0 rfl rfl)
theorem dX0_mark_1 : decode cX0_mark 1 = .ok (.iconst (-1), 1) := dk_2 (dk_at dksX0_mark_0 1 rfl rfl)
theorem dX0_mark_2 : decode cX0_mark 2 = .ok (.if_icmp .ne 16, 3) := dk_160 0 16 (dk_at dksX0_mark_0 2 rfl rfl)
theorem dX0_mark_5 : decode cX0_mark 5 = .ok (.aload_n 0, 1) := dk_42 (dk_at dksX0_mark_0 5 rfl rfl)
theorem dX0_mark_6 : decode cX0_mark 6 = .ok (.getfield 20, 3) := dk_180 0 20 (dk_at dksX0_mark_0 6 rfl rfl)
theorem dX0_mark_9 : decode cX0_mark 9 = .ok (.getfield 317, 3) := dk_180 1 61 (dk_at dksX0_mark_0 9 rfl rfl)
theorem dX0_mark_12 : decode cX0_mark 12 = .ok (.invokevirtual 288, 3) := dk_182 1 32 (dk_at dksX0_mark_0 12 rfl rfl)
theorem dX0_mark_15 : decode cX0_mark 15 = .ok (.goto 29, 3) := dk_167 0 29 (dk_at dksX0_mark_0 15 rfl rfl)
theorem dX0_mark_18 : decode cX0_mark 18 = .ok (.iload_n 1, 1) := dk_27 (dk_at dksX0_mark_0 18 rfl rfl)
theorem dX0_mark_19 : decode cX0_mark 19 = .ok (.iconst 1, 1) := dk_4 (dk_at dksX0_mark_0 19 rfl rfl)
theorem dX0_mark_20 : decode cX0_mark 20 = .ok (.bipush 60, 2) := dk_16 60 (dk_at dksX0_mark_0 20 rfl rfl)
theorem dX0_mark_22 : decode cX0_mark 22 = .ok (.invokestatic 81, 3) := dk_184 0 81 (dk_at dksX0_mark_1 0 rfl rfl)
theorem dX0_mark_25 : decode cX0_mark 25 = .ok (.ifCond .eq 18, 3) := dk_153 0 18 (dk_at dksX0_mark_1 3 rfl rfl)
theorem dX0_mark_28 : decode cX0_mark 28 = .ok (.aload_n 0, 1) := dk_42 (dk_at dksX0_mark_1 6 rfl rfl)
theorem dX0_mark_29 : decode cX0_mark 29 = .ok (.getfield 20, 3) := dk_180 0 20 (dk_at dksX0_mark_1 7 rfl rfl)
theorem dX0_mark_32 : decode cX0_mark 32 = .ok (.getfield 317, 3) := dk_180 1 61 (dk_at dksX0_mark_1 10 rfl rfl)
theorem dX0_mark_35 : decode cX0_mark 35 = .ok (.iload_n 1, 1) := dk_27 (dk_at dksX0_mark_1 13 rfl rfl)
theorem dX0_mark_36 : decode cX0_mark 36 = .ok (.iconst 0, 1) := dk_3 (dk_at dksX0_mark_1 14 rfl rfl)
theorem dX0_mark_37 : decode cX0_mark 37 = .ok (.invokevirtual 293, 3) := dk_182 1 37 (dk_at dksX0_mark_1 15 rfl rfl)
theorem dX0_mark_40 : decode cX0_mark 40 = .ok (.goto 4, 3) := dk_167 0 4 (dk_at dksX0_mark_1 18 rfl rfl)
theorem dX0_mark_43 : decode cX0_mark 43 = .ok (.iconst (-1), 1) := dk_2 (dk_at dksX0_mark_1 21 rfl rfl)
theorem dX0_mark_44 : decode cX0_mark 44 = .ok (.ireturn, 1) := dk_172 (dk_at dksX0_mark_1 22 rfl rfl)
abbrev cX0_measures : ByteArray := prog_1_method_43_code
def yX0_measures : MethodName := ⟨RX0, "measures", "(I)I"⟩
def dkwX0_measures_3 : List UInt8 := [29, 172]
abbrev dktX0_measures_3 : List UInt8 := dkwX0_measures_3 ++ []
def dkwX0_measures_2 : List UInt8 := [153, 0, 7, 29, 167, 0, 5, 21, 4, 62, 132, 4, 255, 167, 255, 215, 27, 154, 0, 7, 28, 167, 0, 4]
abbrev dktX0_measures_2 : List UInt8 := dkwX0_measures_2 ++ dktX0_measures_3
def dkwX0_measures_1 : List UInt8 := [28, 42, 21, 4, 182, 1, 67, 153, 0, 7, 4, 167, 0, 4, 3, 96, 61, 42, 21, 4, 182, 1, 67]
abbrev dktX0_measures_1 : List UInt8 := dkwX0_measures_1 ++ dktX0_measures_2
def dkwX0_measures_0 : List UInt8 := [27, 3, 4, 184, 0, 81, 154, 0, 5, 2, 172, 3, 61, 2, 62, 16, 60, 54, 4, 21, 4, 158, 0, 42]
abbrev dktX0_measures_0 : List UInt8 := dkwX0_measures_0 ++ dktX0_measures_1
theorem dksX0_measures_0 : cX0_measures.data.toList.drop 0 = dktX0_measures_0 := by decide +kernel
theorem dksX0_measures_1 : cX0_measures.data.toList.drop 24 = dktX0_measures_1 := dk_seg dksX0_measures_0 24 rfl rfl
theorem dksX0_measures_2 : cX0_measures.data.toList.drop 47 = dktX0_measures_2 := dk_seg dksX0_measures_1 23 rfl rfl
theorem dksX0_measures_3 : cX0_measures.data.toList.drop 71 = dktX0_measures_3 := dk_seg dksX0_measures_2 24 rfl rfl
theorem dX0_measures_0 : decode cX0_measures 0 = .ok (.iload_n 1, 1) := dk_27 (dk_at dksX0_measures_0 0 rfl rfl)
theorem dX0_measures_1 : decode cX0_measures 1 = .ok (.iconst 0, 1) := dk_3 (dk_at dksX0_measures_0 1 rfl rfl)
theorem dX0_measures_2 : decode cX0_measures 2 = .ok (.iconst 1, 1) := dk_4 (dk_at dksX0_measures_0 2 rfl rfl)
theorem dX0_measures_3 : decode cX0_measures 3 = .ok (.invokestatic 81, 3) := dk_184 0 81 (dk_at dksX0_measures_0 3 rfl rfl)
theorem dX0_measures_6 : decode cX0_measures 6 = .ok (.ifCond .ne 5, 3) := dk_154 0 5 (dk_at dksX0_measures_0 6 rfl rfl)
theorem dX0_measures_9 : decode cX0_measures 9 = .ok (.iconst (-1), 1) := dk_2 (dk_at dksX0_measures_0 9 rfl rfl)
theorem dX0_measures_10 : decode cX0_measures 10 = .ok (.ireturn, 1) := dk_172 (dk_at dksX0_measures_0 10 rfl rfl)
theorem dX0_measures_11 : decode cX0_measures 11 = .ok (.iconst 0, 1) := dk_3 (dk_at dksX0_measures_0 11 rfl rfl)
theorem dX0_measures_12 : decode cX0_measures 12 = .ok (.istore_n 2, 1) := dk_61 (dk_at dksX0_measures_0 12 rfl rfl)
theorem dX0_measures_13 : decode cX0_measures 13 = .ok (.iconst (-1), 1) := dk_2 (dk_at dksX0_measures_0 13 rfl rfl)
theorem dX0_measures_14 : decode cX0_measures 14 = .ok (.istore_n 3, 1) := dk_62 (dk_at dksX0_measures_0 14 rfl rfl)
theorem dX0_measures_15 : decode cX0_measures 15 = .ok (.bipush 60, 2) := dk_16 60 (dk_at dksX0_measures_0 15 rfl rfl)
theorem dX0_measures_17 : decode cX0_measures 17 = .ok (.istore 4, 2) := dk_54 4 (dk_at dksX0_measures_0 17 rfl rfl)
theorem dX0_measures_19 : decode cX0_measures 19 = .ok (.iload 4, 2) := dk_21 4 (dk_at dksX0_measures_0 19 rfl rfl)
theorem dX0_measures_21 : decode cX0_measures 21 = .ok (.ifCond .le 42, 3) := dk_158 0 42 (dk_at dksX0_measures_0 21 rfl rfl)
theorem dX0_measures_24 : decode cX0_measures 24 = .ok (.iload_n 2, 1) := dk_28 (dk_at dksX0_measures_1 0 rfl rfl)
theorem dX0_measures_25 : decode cX0_measures 25 = .ok (.aload_n 0, 1) := dk_42 (dk_at dksX0_measures_1 1 rfl rfl)
theorem dX0_measures_26 : decode cX0_measures 26 = .ok (.iload 4, 2) := dk_21 4 (dk_at dksX0_measures_1 2 rfl rfl)
theorem dX0_measures_28 : decode cX0_measures 28 = .ok (.invokevirtual 323, 3) := dk_182 1 67 (dk_at dksX0_measures_1 4 rfl rfl)
theorem dX0_measures_31 : decode cX0_measures 31 = .ok (.ifCond .eq 7, 3) := dk_153 0 7 (dk_at dksX0_measures_1 7 rfl rfl)
theorem dX0_measures_34 : decode cX0_measures 34 = .ok (.iconst 1, 1) := dk_4 (dk_at dksX0_measures_1 10 rfl rfl)
theorem dX0_measures_35 : decode cX0_measures 35 = .ok (.goto 4, 3) := dk_167 0 4 (dk_at dksX0_measures_1 11 rfl rfl)
theorem dX0_measures_38 : decode cX0_measures 38 = .ok (.iconst 0, 1) := dk_3 (dk_at dksX0_measures_1 14 rfl rfl)
theorem dX0_measures_39 : decode cX0_measures 39 = .ok (.iadd, 1) := dk_96 (dk_at dksX0_measures_1 15 rfl rfl)
theorem dX0_measures_40 : decode cX0_measures 40 = .ok (.istore_n 2, 1) := dk_61 (dk_at dksX0_measures_1 16 rfl rfl)
theorem dX0_measures_41 : decode cX0_measures 41 = .ok (.aload_n 0, 1) := dk_42 (dk_at dksX0_measures_1 17 rfl rfl)
theorem dX0_measures_42 : decode cX0_measures 42 = .ok (.iload 4, 2) := dk_21 4 (dk_at dksX0_measures_1 18 rfl rfl)
theorem dX0_measures_44 : decode cX0_measures 44 = .ok (.invokevirtual 323, 3) := dk_182 1 67 (dk_at dksX0_measures_1 20 rfl rfl)
theorem dX0_measures_47 : decode cX0_measures 47 = .ok (.ifCond .eq 7, 3) := dk_153 0 7 (dk_at dksX0_measures_2 0 rfl rfl)
theorem dX0_measures_50 : decode cX0_measures 50 = .ok (.iload_n 3, 1) := dk_29 (dk_at dksX0_measures_2 3 rfl rfl)
theorem dX0_measures_51 : decode cX0_measures 51 = .ok (.goto 5, 3) := dk_167 0 5 (dk_at dksX0_measures_2 4 rfl rfl)
theorem dX0_measures_54 : decode cX0_measures 54 = .ok (.iload 4, 2) := dk_21 4 (dk_at dksX0_measures_2 7 rfl rfl)
theorem dX0_measures_56 : decode cX0_measures 56 = .ok (.istore_n 3, 1) := dk_62 (dk_at dksX0_measures_2 9 rfl rfl)
theorem dX0_measures_57 : decode cX0_measures 57 = .ok (.iinc 4 (-1), 3) := dk_132 4 255 (dk_at dksX0_measures_2 10 rfl rfl)
theorem dX0_measures_60 : decode cX0_measures 60 = .ok (.goto (-41), 3) := dk_167 255 215 (dk_at dksX0_measures_2 13 rfl rfl)
theorem dX0_measures_63 : decode cX0_measures 63 = .ok (.iload_n 1, 1) := dk_27 (dk_at dksX0_measures_2 16 rfl rfl)
theorem dX0_measures_64 : decode cX0_measures 64 = .ok (.ifCond .ne 7, 3) := dk_154 0 7 (dk_at dksX0_measures_2 17 rfl rfl)
theorem dX0_measures_67 : decode cX0_measures 67 = .ok (.iload_n 2, 1) := dk_28 (dk_at dksX0_measures_2 20 rfl rfl)
theorem dX0_measures_68 : decode cX0_measures 68 = .ok (.goto 4, 3) := dk_167 0 4 (dk_at dksX0_measures_2 21 rfl rfl)
theorem dX0_measures_71 : decode cX0_measures 71 = .ok (.iload_n 3, 1) := dk_29 (dk_at dksX0_measures_3 0 rfl rfl)
theorem dX0_measures_72 : decode cX0_measures 72 = .ok (.ireturn, 1) := dk_172 (dk_at dksX0_measures_3 1 rfl rfl)
abbrev cX0_isMeasured : ByteArray := prog_1_method_42_code
def yX0_isMeasured : MethodName := ⟨RX0, "isMeasured", "(I)Z"⟩
def dkwX0_isMeasured_3 : List UInt8 := [132, 3, 1, 167, 255, 216, 132, 2, 1, 167, 255, 177, 3, 172]
abbrev dktX0_isMeasured_3 : List UInt8 := dkwX0_isMeasured_3 ++ []
def dkwX0_isMeasured_2 : List UInt8 := [182, 1, 40, 42, 180, 0, 20, 180, 1, 61, 29, 182, 1, 40, 100, 184, 1, 64, 27, 160, 0, 5, 4, 172]
abbrev dktX0_isMeasured_2 : List UInt8 := dkwX0_isMeasured_2 ++ dktX0_isMeasured_3
def dkwX0_isMeasured_1 : List UInt8 := [182, 1, 40, 27, 160, 0, 5, 4, 172, 3, 62, 29, 28, 162, 0, 41, 42, 180, 0, 20, 180, 1, 61, 28]
abbrev dktX0_isMeasured_1 : List UInt8 := dkwX0_isMeasured_1 ++ dktX0_isMeasured_2
def dkwX0_isMeasured_0 : List UInt8 := [3, 61, 28, 42, 180, 0, 20, 180, 1, 61, 180, 1, 43, 162, 0, 71, 42, 180, 0, 20, 180, 1, 61, 28]
abbrev dktX0_isMeasured_0 : List UInt8 := dkwX0_isMeasured_0 ++ dktX0_isMeasured_1
theorem dksX0_isMeasured_0 : cX0_isMeasured.data.toList.drop 0 = dktX0_isMeasured_0 := by decide +kernel
theorem dksX0_isMeasured_1 : cX0_isMeasured.data.toList.drop 24 = dktX0_isMeasured_1 := dk_seg dksX0_isMeasured_0 24 rfl rfl
theorem dksX0_isMeasured_2 : cX0_isMeasured.data.toList.drop 48 = dktX0_isMeasured_2 := dk_seg dksX0_isMeasured_1 24 rfl rfl
theorem dksX0_isMeasured_3 : cX0_isMeasured.data.toList.drop 72 = dktX0_isMeasured_3 := dk_seg dksX0_isMeasured_2 24 rfl rfl
theorem dX0_isMeasured_0 : decode cX0_isMeasured 0 = .ok (.iconst 0, 1) := dk_3 (dk_at dksX0_isMeasured_0 0 rfl rfl)
theorem dX0_isMeasured_1 : decode cX0_isMeasured 1 = .ok (.istore_n 2, 1) := dk_61 (dk_at dksX0_isMeasured_0 1 rfl rfl)
theorem dX0_isMeasured_2 : decode cX0_isMeasured 2 = .ok (.iload_n 2, 1) := dk_28 (dk_at dksX0_isMeasured_0 2 rfl rfl)
theorem dX0_isMeasured_3 : decode cX0_isMeasured 3 = .ok (.aload_n 0, 1) := dk_42 (dk_at dksX0_isMeasured_0 3 rfl rfl)
theorem dX0_isMeasured_4 : decode cX0_isMeasured 4 = .ok (.getfield 20, 3) := dk_180 0 20 (dk_at dksX0_isMeasured_0 4 rfl rfl)
theorem dX0_isMeasured_7 : decode cX0_isMeasured 7 = .ok (.getfield 317, 3) := dk_180 1 61 (dk_at dksX0_isMeasured_0 7 rfl rfl)
theorem dX0_isMeasured_10 : decode cX0_isMeasured 10 = .ok (.getfield 299, 3) := dk_180 1 43 (dk_at dksX0_isMeasured_0 10 rfl rfl)
theorem dX0_isMeasured_13 : decode cX0_isMeasured 13 = .ok (.if_icmp .ge 71, 3) := dk_162 0 71 (dk_at dksX0_isMeasured_0 13 rfl rfl)
theorem dX0_isMeasured_16 : decode cX0_isMeasured 16 = .ok (.aload_n 0, 1) := dk_42 (dk_at dksX0_isMeasured_0 16 rfl rfl)
theorem dX0_isMeasured_17 : decode cX0_isMeasured 17 = .ok (.getfield 20, 3) := dk_180 0 20 (dk_at dksX0_isMeasured_0 17 rfl rfl)
theorem dX0_isMeasured_20 : decode cX0_isMeasured 20 = .ok (.getfield 317, 3) := dk_180 1 61 (dk_at dksX0_isMeasured_0 20 rfl rfl)
theorem dX0_isMeasured_23 : decode cX0_isMeasured 23 = .ok (.iload_n 2, 1) := dk_28 (dk_at dksX0_isMeasured_0 23 rfl rfl)
theorem dX0_isMeasured_24 : decode cX0_isMeasured 24 = .ok (.invokevirtual 296, 3) := dk_182 1 40 (dk_at dksX0_isMeasured_1 0 rfl rfl)
theorem dX0_isMeasured_27 : decode cX0_isMeasured 27 = .ok (.iload_n 1, 1) := dk_27 (dk_at dksX0_isMeasured_1 3 rfl rfl)
theorem dX0_isMeasured_28 : decode cX0_isMeasured 28 = .ok (.if_icmp .ne 5, 3) := dk_160 0 5 (dk_at dksX0_isMeasured_1 4 rfl rfl)
theorem dX0_isMeasured_31 : decode cX0_isMeasured 31 = .ok (.iconst 1, 1) := dk_4 (dk_at dksX0_isMeasured_1 7 rfl rfl)
theorem dX0_isMeasured_32 : decode cX0_isMeasured 32 = .ok (.ireturn, 1) := dk_172 (dk_at dksX0_isMeasured_1 8 rfl rfl)
theorem dX0_isMeasured_33 : decode cX0_isMeasured 33 = .ok (.iconst 0, 1) := dk_3 (dk_at dksX0_isMeasured_1 9 rfl rfl)
theorem dX0_isMeasured_34 : decode cX0_isMeasured 34 = .ok (.istore_n 3, 1) := dk_62 (dk_at dksX0_isMeasured_1 10 rfl rfl)
theorem dX0_isMeasured_35 : decode cX0_isMeasured 35 = .ok (.iload_n 3, 1) := dk_29 (dk_at dksX0_isMeasured_1 11 rfl rfl)
theorem dX0_isMeasured_36 : decode cX0_isMeasured 36 = .ok (.iload_n 2, 1) := dk_28 (dk_at dksX0_isMeasured_1 12 rfl rfl)
theorem dX0_isMeasured_37 : decode cX0_isMeasured 37 = .ok (.if_icmp .ge 41, 3) := dk_162 0 41 (dk_at dksX0_isMeasured_1 13 rfl rfl)
theorem dX0_isMeasured_40 : decode cX0_isMeasured 40 = .ok (.aload_n 0, 1) := dk_42 (dk_at dksX0_isMeasured_1 16 rfl rfl)
theorem dX0_isMeasured_41 : decode cX0_isMeasured 41 = .ok (.getfield 20, 3) := dk_180 0 20 (dk_at dksX0_isMeasured_1 17 rfl rfl)
theorem dX0_isMeasured_44 : decode cX0_isMeasured 44 = .ok (.getfield 317, 3) := dk_180 1 61 (dk_at dksX0_isMeasured_1 20 rfl rfl)
theorem dX0_isMeasured_47 : decode cX0_isMeasured 47 = .ok (.iload_n 2, 1) := dk_28 (dk_at dksX0_isMeasured_1 23 rfl rfl)
theorem dX0_isMeasured_48 : decode cX0_isMeasured 48 = .ok (.invokevirtual 296, 3) := dk_182 1 40 (dk_at dksX0_isMeasured_2 0 rfl rfl)
theorem dX0_isMeasured_51 : decode cX0_isMeasured 51 = .ok (.aload_n 0, 1) := dk_42 (dk_at dksX0_isMeasured_2 3 rfl rfl)
theorem dX0_isMeasured_52 : decode cX0_isMeasured 52 = .ok (.getfield 20, 3) := dk_180 0 20 (dk_at dksX0_isMeasured_2 4 rfl rfl)
theorem dX0_isMeasured_55 : decode cX0_isMeasured 55 = .ok (.getfield 317, 3) := dk_180 1 61 (dk_at dksX0_isMeasured_2 7 rfl rfl)
theorem dX0_isMeasured_58 : decode cX0_isMeasured 58 = .ok (.iload_n 3, 1) := dk_29 (dk_at dksX0_isMeasured_2 10 rfl rfl)
theorem dX0_isMeasured_59 : decode cX0_isMeasured 59 = .ok (.invokevirtual 296, 3) := dk_182 1 40 (dk_at dksX0_isMeasured_2 11 rfl rfl)
theorem dX0_isMeasured_62 : decode cX0_isMeasured 62 = .ok (.isub, 1) := dk_100 (dk_at dksX0_isMeasured_2 14 rfl rfl)
theorem dX0_isMeasured_63 : decode cX0_isMeasured 63 = .ok (.invokestatic 320, 3) := dk_184 1 64 (dk_at dksX0_isMeasured_2 15 rfl rfl)
theorem dX0_isMeasured_66 : decode cX0_isMeasured 66 = .ok (.iload_n 1, 1) := dk_27 (dk_at dksX0_isMeasured_2 18 rfl rfl)
theorem dX0_isMeasured_67 : decode cX0_isMeasured 67 = .ok (.if_icmp .ne 5, 3) := dk_160 0 5 (dk_at dksX0_isMeasured_2 19 rfl rfl)
theorem dX0_isMeasured_70 : decode cX0_isMeasured 70 = .ok (.iconst 1, 1) := dk_4 (dk_at dksX0_isMeasured_2 22 rfl rfl)
theorem dX0_isMeasured_71 : decode cX0_isMeasured 71 = .ok (.ireturn, 1) := dk_172 (dk_at dksX0_isMeasured_2 23 rfl rfl)
theorem dX0_isMeasured_72 : decode cX0_isMeasured 72 = .ok (.iinc 3 1, 3) := dk_132 3 1 (dk_at dksX0_isMeasured_3 0 rfl rfl)
theorem dX0_isMeasured_75 : decode cX0_isMeasured 75 = .ok (.goto (-40), 3) := dk_167 255 216 (dk_at dksX0_isMeasured_3 3 rfl rfl)
theorem dX0_isMeasured_78 : decode cX0_isMeasured 78 = .ok (.iinc 2 1, 3) := dk_132 2 1 (dk_at dksX0_isMeasured_3 6 rfl rfl)
theorem dX0_isMeasured_81 : decode cX0_isMeasured 81 = .ok (.goto (-79), 3) := dk_167 255 177 (dk_at dksX0_isMeasured_3 9 rfl rfl)
theorem dX0_isMeasured_84 : decode cX0_isMeasured 84 = .ok (.iconst 0, 1) := dk_3 (dk_at dksX0_isMeasured_3 12 rfl rfl)
theorem dX0_isMeasured_85 : decode cX0_isMeasured 85 = .ok (.ireturn, 1) := dk_172 (dk_at dksX0_isMeasured_3 13 rfl rfl)
abbrev cX0_bite : ByteArray := prog_1_method_45_code
def yX0_bite : MethodName := ⟨RX0, "bite", "(II)I"⟩
def dkwX0_bite_1 : List UInt8 := [153, 0, 18, 42, 180, 0, 20, 180, 1, 70, 27, 28, 182, 1, 37, 167, 0, 4, 2, 172]
abbrev dktX0_bite_1 : List UInt8 := dkwX0_bite_1 ++ []
def dkwX0_bite_0 : List UInt8 := [27, 2, 160, 0, 16, 42, 180, 0, 20, 180, 1, 70, 182, 1, 32, 167, 0, 27, 27, 28, 184, 1, 73]
abbrev dktX0_bite_0 : List UInt8 := dkwX0_bite_0 ++ dktX0_bite_1
theorem dksX0_bite_0 : cX0_bite.data.toList.drop 0 = dktX0_bite_0 := by decide +kernel
theorem dksX0_bite_1 : cX0_bite.data.toList.drop 23 = dktX0_bite_1 := dk_seg dksX0_bite_0 23 rfl rfl
theorem dX0_bite_0 : decode cX0_bite 0 = .ok (.iload_n 1, 1) := dk_27 (dk_at dksX0_bite_0 0 rfl rfl)
theorem dX0_bite_1 : decode cX0_bite 1 = .ok (.iconst (-1), 1) := dk_2 (dk_at dksX0_bite_0 1 rfl rfl)
theorem dX0_bite_2 : decode cX0_bite 2 = .ok (.if_icmp .ne 16, 3) := dk_160 0 16 (dk_at dksX0_bite_0 2 rfl rfl)
theorem dX0_bite_5 : decode cX0_bite 5 = .ok (.aload_n 0, 1) := dk_42 (dk_at dksX0_bite_0 5 rfl rfl)
theorem dX0_bite_6 : decode cX0_bite 6 = .ok (.getfield 20, 3) := dk_180 0 20 (dk_at dksX0_bite_0 6 rfl rfl)
theorem dX0_bite_9 : decode cX0_bite 9 = .ok (.getfield 326, 3) := dk_180 1 70 (dk_at dksX0_bite_0 9 rfl rfl)
theorem dX0_bite_12 : decode cX0_bite 12 = .ok (.invokevirtual 288, 3) := dk_182 1 32 (dk_at dksX0_bite_0 12 rfl rfl)
theorem dX0_bite_15 : decode cX0_bite 15 = .ok (.goto 27, 3) := dk_167 0 27 (dk_at dksX0_bite_0 15 rfl rfl)
theorem dX0_bite_18 : decode cX0_bite 18 = .ok (.iload_n 1, 1) := dk_27 (dk_at dksX0_bite_0 18 rfl rfl)
theorem dX0_bite_19 : decode cX0_bite 19 = .ok (.iload_n 2, 1) := dk_28 (dk_at dksX0_bite_0 19 rfl rfl)
theorem dX0_bite_20 : decode cX0_bite 20 = .ok (.invokestatic 329, 3) := dk_184 1 73 (dk_at dksX0_bite_0 20 rfl rfl)
theorem dX0_bite_23 : decode cX0_bite 23 = .ok (.ifCond .eq 18, 3) := dk_153 0 18 (dk_at dksX0_bite_1 0 rfl rfl)
theorem dX0_bite_26 : decode cX0_bite 26 = .ok (.aload_n 0, 1) := dk_42 (dk_at dksX0_bite_1 3 rfl rfl)
theorem dX0_bite_27 : decode cX0_bite 27 = .ok (.getfield 20, 3) := dk_180 0 20 (dk_at dksX0_bite_1 4 rfl rfl)
theorem dX0_bite_30 : decode cX0_bite 30 = .ok (.getfield 326, 3) := dk_180 1 70 (dk_at dksX0_bite_1 7 rfl rfl)
theorem dX0_bite_33 : decode cX0_bite 33 = .ok (.iload_n 1, 1) := dk_27 (dk_at dksX0_bite_1 10 rfl rfl)
theorem dX0_bite_34 : decode cX0_bite 34 = .ok (.iload_n 2, 1) := dk_28 (dk_at dksX0_bite_1 11 rfl rfl)
theorem dX0_bite_35 : decode cX0_bite 35 = .ok (.invokevirtual 293, 3) := dk_182 1 37 (dk_at dksX0_bite_1 12 rfl rfl)
theorem dX0_bite_38 : decode cX0_bite 38 = .ok (.goto 4, 3) := dk_167 0 4 (dk_at dksX0_bite_1 15 rfl rfl)
theorem dX0_bite_41 : decode cX0_bite 41 = .ok (.iconst (-1), 1) := dk_2 (dk_at dksX0_bite_1 18 rfl rfl)
theorem dX0_bite_42 : decode cX0_bite 42 = .ok (.ireturn, 1) := dk_172 (dk_at dksX0_bite_1 19 rfl rfl)
abbrev cX0_isBite : ByteArray := prog_1_method_44_code
def yX0_isBite : MethodName := ⟨RX0, "isBite", "(II)Z"⟩
def dkwX0_isBite_1 : List UInt8 := [167, 0, 4, 3, 172]
abbrev dktX0_isBite_1 : List UInt8 := dkwX0_isBite_1 ++ []
def dkwX0_isBite_0 : List UInt8 := [26, 3, 17, 0, 255, 184, 0, 81, 153, 0, 17, 27, 3, 16, 9, 184, 0, 81, 153, 0, 7, 4]
abbrev dktX0_isBite_0 : List UInt8 := dkwX0_isBite_0 ++ dktX0_isBite_1
theorem dksX0_isBite_0 : cX0_isBite.data.toList.drop 0 = dktX0_isBite_0 := by decide +kernel
theorem dksX0_isBite_1 : cX0_isBite.data.toList.drop 22 = dktX0_isBite_1 := dk_seg dksX0_isBite_0 22 rfl rfl
theorem dX0_isBite_0 : decode cX0_isBite 0 = .ok (.iload_n 0, 1) := dk_26 (dk_at dksX0_isBite_0 0 rfl rfl)
theorem dX0_isBite_1 : decode cX0_isBite 1 = .ok (.iconst 0, 1) := dk_3 (dk_at dksX0_isBite_0 1 rfl rfl)
theorem dX0_isBite_2 : decode cX0_isBite 2 = .ok (.sipush 255, 3) := dk_17 0 255 (dk_at dksX0_isBite_0 2 rfl rfl)
theorem dX0_isBite_5 : decode cX0_isBite 5 = .ok (.invokestatic 81, 3) := dk_184 0 81 (dk_at dksX0_isBite_0 5 rfl rfl)
theorem dX0_isBite_8 : decode cX0_isBite 8 = .ok (.ifCond .eq 17, 3) := dk_153 0 17 (dk_at dksX0_isBite_0 8 rfl rfl)
theorem dX0_isBite_11 : decode cX0_isBite 11 = .ok (.iload_n 1, 1) := dk_27 (dk_at dksX0_isBite_0 11 rfl rfl)
theorem dX0_isBite_12 : decode cX0_isBite 12 = .ok (.iconst 0, 1) := dk_3 (dk_at dksX0_isBite_0 12 rfl rfl)
theorem dX0_isBite_13 : decode cX0_isBite 13 = .ok (.bipush 9, 2) := dk_16 9 (dk_at dksX0_isBite_0 13 rfl rfl)
theorem dX0_isBite_15 : decode cX0_isBite 15 = .ok (.invokestatic 81, 3) := dk_184 0 81 (dk_at dksX0_isBite_0 15 rfl rfl)
theorem dX0_isBite_18 : decode cX0_isBite 18 = .ok (.ifCond .eq 7, 3) := dk_153 0 7 (dk_at dksX0_isBite_0 18 rfl rfl)
theorem dX0_isBite_21 : decode cX0_isBite 21 = .ok (.iconst 1, 1) := dk_4 (dk_at dksX0_isBite_0 21 rfl rfl)
theorem dX0_isBite_22 : decode cX0_isBite 22 = .ok (.goto 4, 3) := dk_167 0 4 (dk_at dksX0_isBite_1 0 rfl rfl)
theorem dX0_isBite_25 : decode cX0_isBite 25 = .ok (.iconst 0, 1) := dk_3 (dk_at dksX0_isBite_1 3 rfl rfl)
theorem dX0_isBite_26 : decode cX0_isBite 26 = .ok (.ireturn, 1) := dk_172 (dk_at dksX0_isBite_1 4 rfl rfl)
abbrev cX0_whose : ByteArray := prog_1_method_46_code
def yX0_whose : MethodName := ⟨RX0, "whose", "(II)I"⟩
def dkwX0_whose_3 : List UInt8 := [167, 0, 4, 3, 128, 62, 132, 4, 1, 167, 255, 192, 29, 172]
abbrev dktX0_whose_3 : List UInt8 := dkwX0_whose_3 ++ []
def dkwX0_whose_2 : List UInt8 := [154, 0, 26, 42, 180, 0, 20, 180, 1, 70, 21, 4, 182, 1, 77, 28, 161, 0, 10, 4, 21, 4, 120]
abbrev dktX0_whose_2 : List UInt8 := dkwX0_whose_2 ++ dktX0_whose_3
def dkwX0_whose_1 : List UInt8 := [180, 1, 43, 162, 0, 55, 29, 27, 42, 180, 0, 20, 180, 1, 70, 21, 4, 182, 1, 40, 2, 130, 126]
abbrev dktX0_whose_1 : List UInt8 := dkwX0_whose_1 ++ dktX0_whose_2
def dkwX0_whose_0 : List UInt8 := [27, 28, 184, 1, 73, 154, 0, 5, 2, 172, 3, 62, 3, 54, 4, 21, 4, 42, 180, 0, 20, 180, 1, 70]
abbrev dktX0_whose_0 : List UInt8 := dkwX0_whose_0 ++ dktX0_whose_1
theorem dksX0_whose_0 : cX0_whose.data.toList.drop 0 = dktX0_whose_0 := by decide +kernel
theorem dksX0_whose_1 : cX0_whose.data.toList.drop 24 = dktX0_whose_1 := dk_seg dksX0_whose_0 24 rfl rfl
theorem dksX0_whose_2 : cX0_whose.data.toList.drop 47 = dktX0_whose_2 := dk_seg dksX0_whose_1 23 rfl rfl
theorem dksX0_whose_3 : cX0_whose.data.toList.drop 70 = dktX0_whose_3 := dk_seg dksX0_whose_2 23 rfl rfl
theorem dX0_whose_0 : decode cX0_whose 0 = .ok (.iload_n 1, 1) := dk_27 (dk_at dksX0_whose_0 0 rfl rfl)
theorem dX0_whose_1 : decode cX0_whose 1 = .ok (.iload_n 2, 1) := dk_28 (dk_at dksX0_whose_0 1 rfl rfl)
theorem dX0_whose_2 : decode cX0_whose 2 = .ok (.invokestatic 329, 3) := dk_184 1 73 (dk_at dksX0_whose_0 2 rfl rfl)
theorem dX0_whose_5 : decode cX0_whose 5 = .ok (.ifCond .ne 5, 3) := dk_154 0 5 (dk_at dksX0_whose_0 5 rfl rfl)
theorem dX0_whose_8 : decode cX0_whose 8 = .ok (.iconst (-1), 1) := dk_2 (dk_at dksX0_whose_0 8 rfl rfl)
theorem dX0_whose_9 : decode cX0_whose 9 = .ok (.ireturn, 1) := dk_172 (dk_at dksX0_whose_0 9 rfl rfl)
theorem dX0_whose_10 : decode cX0_whose 10 = .ok (.iconst 0, 1) := dk_3 (dk_at dksX0_whose_0 10 rfl rfl)
theorem dX0_whose_11 : decode cX0_whose 11 = .ok (.istore_n 3, 1) := dk_62 (dk_at dksX0_whose_0 11 rfl rfl)
theorem dX0_whose_12 : decode cX0_whose 12 = .ok (.iconst 0, 1) := dk_3 (dk_at dksX0_whose_0 12 rfl rfl)
theorem dX0_whose_13 : decode cX0_whose 13 = .ok (.istore 4, 2) := dk_54 4 (dk_at dksX0_whose_0 13 rfl rfl)
theorem dX0_whose_15 : decode cX0_whose 15 = .ok (.iload 4, 2) := dk_21 4 (dk_at dksX0_whose_0 15 rfl rfl)
theorem dX0_whose_17 : decode cX0_whose 17 = .ok (.aload_n 0, 1) := dk_42 (dk_at dksX0_whose_0 17 rfl rfl)
theorem dX0_whose_18 : decode cX0_whose 18 = .ok (.getfield 20, 3) := dk_180 0 20 (dk_at dksX0_whose_0 18 rfl rfl)
theorem dX0_whose_21 : decode cX0_whose 21 = .ok (.getfield 326, 3) := dk_180 1 70 (dk_at dksX0_whose_0 21 rfl rfl)
theorem dX0_whose_24 : decode cX0_whose 24 = .ok (.getfield 299, 3) := dk_180 1 43 (dk_at dksX0_whose_1 0 rfl rfl)
theorem dX0_whose_27 : decode cX0_whose 27 = .ok (.if_icmp .ge 55, 3) := dk_162 0 55 (dk_at dksX0_whose_1 3 rfl rfl)
theorem dX0_whose_30 : decode cX0_whose 30 = .ok (.iload_n 3, 1) := dk_29 (dk_at dksX0_whose_1 6 rfl rfl)
theorem dX0_whose_31 : decode cX0_whose 31 = .ok (.iload_n 1, 1) := dk_27 (dk_at dksX0_whose_1 7 rfl rfl)
theorem dX0_whose_32 : decode cX0_whose 32 = .ok (.aload_n 0, 1) := dk_42 (dk_at dksX0_whose_1 8 rfl rfl)
theorem dX0_whose_33 : decode cX0_whose 33 = .ok (.getfield 20, 3) := dk_180 0 20 (dk_at dksX0_whose_1 9 rfl rfl)
theorem dX0_whose_36 : decode cX0_whose 36 = .ok (.getfield 326, 3) := dk_180 1 70 (dk_at dksX0_whose_1 12 rfl rfl)
theorem dX0_whose_39 : decode cX0_whose 39 = .ok (.iload 4, 2) := dk_21 4 (dk_at dksX0_whose_1 15 rfl rfl)
theorem dX0_whose_41 : decode cX0_whose 41 = .ok (.invokevirtual 296, 3) := dk_182 1 40 (dk_at dksX0_whose_1 17 rfl rfl)
theorem dX0_whose_44 : decode cX0_whose 44 = .ok (.iconst (-1), 1) := dk_2 (dk_at dksX0_whose_1 20 rfl rfl)
theorem dX0_whose_45 : decode cX0_whose 45 = .ok (.ixor, 1) := dk_130 (dk_at dksX0_whose_1 21 rfl rfl)
theorem dX0_whose_46 : decode cX0_whose 46 = .ok (.iand, 1) := dk_126 (dk_at dksX0_whose_1 22 rfl rfl)
theorem dX0_whose_47 : decode cX0_whose 47 = .ok (.ifCond .ne 26, 3) := dk_154 0 26 (dk_at dksX0_whose_2 0 rfl rfl)
theorem dX0_whose_50 : decode cX0_whose 50 = .ok (.aload_n 0, 1) := dk_42 (dk_at dksX0_whose_2 3 rfl rfl)
theorem dX0_whose_51 : decode cX0_whose 51 = .ok (.getfield 20, 3) := dk_180 0 20 (dk_at dksX0_whose_2 4 rfl rfl)
theorem dX0_whose_54 : decode cX0_whose 54 = .ok (.getfield 326, 3) := dk_180 1 70 (dk_at dksX0_whose_2 7 rfl rfl)
theorem dX0_whose_57 : decode cX0_whose 57 = .ok (.iload 4, 2) := dk_21 4 (dk_at dksX0_whose_2 10 rfl rfl)
theorem dX0_whose_59 : decode cX0_whose 59 = .ok (.invokevirtual 333, 3) := dk_182 1 77 (dk_at dksX0_whose_2 12 rfl rfl)
theorem dX0_whose_62 : decode cX0_whose 62 = .ok (.iload_n 2, 1) := dk_28 (dk_at dksX0_whose_2 15 rfl rfl)
theorem dX0_whose_63 : decode cX0_whose 63 = .ok (.if_icmp .lt 10, 3) := dk_161 0 10 (dk_at dksX0_whose_2 16 rfl rfl)
theorem dX0_whose_66 : decode cX0_whose 66 = .ok (.iconst 1, 1) := dk_4 (dk_at dksX0_whose_2 19 rfl rfl)
theorem dX0_whose_67 : decode cX0_whose 67 = .ok (.iload 4, 2) := dk_21 4 (dk_at dksX0_whose_2 20 rfl rfl)
theorem dX0_whose_69 : decode cX0_whose 69 = .ok (.ishl, 1) := dk_120 (dk_at dksX0_whose_2 22 rfl rfl)
theorem dX0_whose_70 : decode cX0_whose 70 = .ok (.goto 4, 3) := dk_167 0 4 (dk_at dksX0_whose_3 0 rfl rfl)
theorem dX0_whose_73 : decode cX0_whose 73 = .ok (.iconst 0, 1) := dk_3 (dk_at dksX0_whose_3 3 rfl rfl)
theorem dX0_whose_74 : decode cX0_whose 74 = .ok (.ior, 1) := dk_128 (dk_at dksX0_whose_3 4 rfl rfl)
theorem dX0_whose_75 : decode cX0_whose 75 = .ok (.istore_n 3, 1) := dk_62 (dk_at dksX0_whose_3 5 rfl rfl)
theorem dX0_whose_76 : decode cX0_whose 76 = .ok (.iinc 4 1, 3) := dk_132 4 1 (dk_at dksX0_whose_3 6 rfl rfl)
theorem dX0_whose_79 : decode cX0_whose 79 = .ok (.goto (-64), 3) := dk_167 255 192 (dk_at dksX0_whose_3 9 rfl rfl)
theorem dX0_whose_82 : decode cX0_whose 82 = .ok (.iload_n 3, 1) := dk_29 (dk_at dksX0_whose_3 12 rfl rfl)
theorem dX0_whose_83 : decode cX0_whose 83 = .ok (.ireturn, 1) := dk_172 (dk_at dksX0_whose_3 13 rfl rfl)
abbrev cX0_crumb : ByteArray := prog_1_method_47_code
def yX0_crumb : MethodName := ⟨RX0, "crumb", "(I)I"⟩
def dkwX0_crumb_1 : List UInt8 := [153, 0, 18, 42, 180, 0, 20, 180, 1, 80, 27, 3, 182, 1, 37, 167, 0, 4, 2, 172]
abbrev dktX0_crumb_1 : List UInt8 := dkwX0_crumb_1 ++ []
def dkwX0_crumb_0 : List UInt8 := [27, 2, 160, 0, 16, 42, 180, 0, 20, 180, 1, 80, 182, 1, 32, 167, 0, 28, 27, 3, 6, 184, 0, 81]
abbrev dktX0_crumb_0 : List UInt8 := dkwX0_crumb_0 ++ dktX0_crumb_1
theorem dksX0_crumb_0 : cX0_crumb.data.toList.drop 0 = dktX0_crumb_0 := by decide +kernel
theorem dksX0_crumb_1 : cX0_crumb.data.toList.drop 24 = dktX0_crumb_1 := dk_seg dksX0_crumb_0 24 rfl rfl
theorem dX0_crumb_0 : decode cX0_crumb 0 = .ok (.iload_n 1, 1) := dk_27 (dk_at dksX0_crumb_0 0 rfl rfl)
theorem dX0_crumb_1 : decode cX0_crumb 1 = .ok (.iconst (-1), 1) := dk_2 (dk_at dksX0_crumb_0 1 rfl rfl)
theorem dX0_crumb_2 : decode cX0_crumb 2 = .ok (.if_icmp .ne 16, 3) := dk_160 0 16 (dk_at dksX0_crumb_0 2 rfl rfl)
theorem dX0_crumb_5 : decode cX0_crumb 5 = .ok (.aload_n 0, 1) := dk_42 (dk_at dksX0_crumb_0 5 rfl rfl)
theorem dX0_crumb_6 : decode cX0_crumb 6 = .ok (.getfield 20, 3) := dk_180 0 20 (dk_at dksX0_crumb_0 6 rfl rfl)
theorem dX0_crumb_9 : decode cX0_crumb 9 = .ok (.getfield 336, 3) := dk_180 1 80 (dk_at dksX0_crumb_0 9 rfl rfl)
theorem dX0_crumb_12 : decode cX0_crumb 12 = .ok (.invokevirtual 288, 3) := dk_182 1 32 (dk_at dksX0_crumb_0 12 rfl rfl)
theorem dX0_crumb_15 : decode cX0_crumb 15 = .ok (.goto 28, 3) := dk_167 0 28 (dk_at dksX0_crumb_0 15 rfl rfl)
theorem dX0_crumb_18 : decode cX0_crumb 18 = .ok (.iload_n 1, 1) := dk_27 (dk_at dksX0_crumb_0 18 rfl rfl)
theorem dX0_crumb_19 : decode cX0_crumb 19 = .ok (.iconst 0, 1) := dk_3 (dk_at dksX0_crumb_0 19 rfl rfl)
theorem dX0_crumb_20 : decode cX0_crumb 20 = .ok (.iconst 3, 1) := dk_6 (dk_at dksX0_crumb_0 20 rfl rfl)
theorem dX0_crumb_21 : decode cX0_crumb 21 = .ok (.invokestatic 81, 3) := dk_184 0 81 (dk_at dksX0_crumb_0 21 rfl rfl)
theorem dX0_crumb_24 : decode cX0_crumb 24 = .ok (.ifCond .eq 18, 3) := dk_153 0 18 (dk_at dksX0_crumb_1 0 rfl rfl)
theorem dX0_crumb_27 : decode cX0_crumb 27 = .ok (.aload_n 0, 1) := dk_42 (dk_at dksX0_crumb_1 3 rfl rfl)
theorem dX0_crumb_28 : decode cX0_crumb 28 = .ok (.getfield 20, 3) := dk_180 0 20 (dk_at dksX0_crumb_1 4 rfl rfl)
theorem dX0_crumb_31 : decode cX0_crumb 31 = .ok (.getfield 336, 3) := dk_180 1 80 (dk_at dksX0_crumb_1 7 rfl rfl)
theorem dX0_crumb_34 : decode cX0_crumb 34 = .ok (.iload_n 1, 1) := dk_27 (dk_at dksX0_crumb_1 10 rfl rfl)
theorem dX0_crumb_35 : decode cX0_crumb 35 = .ok (.iconst 0, 1) := dk_3 (dk_at dksX0_crumb_1 11 rfl rfl)
theorem dX0_crumb_36 : decode cX0_crumb 36 = .ok (.invokevirtual 293, 3) := dk_182 1 37 (dk_at dksX0_crumb_1 12 rfl rfl)
theorem dX0_crumb_39 : decode cX0_crumb 39 = .ok (.goto 4, 3) := dk_167 0 4 (dk_at dksX0_crumb_1 15 rfl rfl)
theorem dX0_crumb_42 : decode cX0_crumb 42 = .ok (.iconst (-1), 1) := dk_2 (dk_at dksX0_crumb_1 18 rfl rfl)
theorem dX0_crumb_43 : decode cX0_crumb 43 = .ok (.ireturn, 1) := dk_172 (dk_at dksX0_crumb_1 19 rfl rfl)
abbrev cX0_crumbs : ByteArray := prog_1_method_48_code
def yX0_crumbs : MethodName := ⟨RX0, "crumbs", "(I)I"⟩
def dkwX0_crumbs_9 : List UInt8 := [154, 0, 15, 28, 184, 1, 64, 29, 184, 1, 64, 96, 167, 0, 5, 21, 4, 172]
abbrev dktX0_crumbs_9 : List UInt8 := dkwX0_crumbs_9 ++ []
def dkwX0_crumbs_8 : List UInt8 := [21, 4, 21, 8, 4, 164, 0, 7, 4, 167, 0, 4, 3, 96, 54, 4, 132, 7, 1, 167, 255, 223, 27]
abbrev dktX0_crumbs_8 : List UInt8 := dkwX0_crumbs_8 ++ dktX0_crumbs_9
def dkwX0_crumbs_7 : List UInt8 := [58, 5, 25, 5, 190, 54, 6, 3, 54, 7, 21, 7, 21, 6, 162, 0, 32, 25, 5, 21, 7, 46, 54, 8]
abbrev dktX0_crumbs_7 : List UInt8 := dkwX0_crumbs_7 ++ dktX0_crumbs_8
def dkwX0_crumbs_6 : List UInt8 := [28, 96, 16, 16, 96, 92, 46, 4, 96, 79, 132, 4, 1, 167, 255, 156, 3, 54, 4, 42, 180, 0, 50]
abbrev dktX0_crumbs_6 : List UInt8 := dkwX0_crumbs_6 ++ dktX0_crumbs_7
def dkwX0_crumbs_5 : List UInt8 := [21, 5, 6, 160, 0, 7, 2, 167, 0, 4, 3, 96, 61, 42, 180, 0, 50, 16, 33, 29, 16, 16, 96, 104]
abbrev dktX0_crumbs_5 : List UInt8 := dkwX0_crumbs_5 ++ dktX0_crumbs_6
def dkwX0_crumbs_4 : List UInt8 := [21, 5, 5, 160, 0, 7, 2, 167, 0, 4, 3, 96, 62, 28, 21, 5, 4, 160, 0, 7, 4, 167, 0, 14]
abbrev dktX0_crumbs_4 : List UInt8 := dkwX0_crumbs_4 ++ dktX0_crumbs_5
def dkwX0_crumbs_3 : List UInt8 := [180, 0, 20, 180, 1, 80, 21, 4, 182, 1, 40, 54, 5, 29, 21, 5, 154, 0, 7, 4, 167, 0, 14]
abbrev dktX0_crumbs_3 : List UInt8 := dkwX0_crumbs_3 ++ dktX0_crumbs_4
def dkwX0_crumbs_2 : List UInt8 := [46, 4, 96, 79, 3, 54, 4, 21, 4, 42, 180, 0, 20, 180, 1, 80, 180, 1, 43, 162, 0, 91, 42]
abbrev dktX0_crumbs_2 : List UInt8 := dkwX0_crumbs_2 ++ dktX0_crumbs_3
def dkwX0_crumbs_1 : List UInt8 := [180, 0, 50, 28, 3, 79, 132, 2, 1, 167, 255, 237, 3, 61, 3, 62, 42, 180, 0, 50, 17, 2, 32, 92]
abbrev dktX0_crumbs_1 : List UInt8 := dkwX0_crumbs_1 ++ dktX0_crumbs_2
def dkwX0_crumbs_0 : List UInt8 := [27, 3, 4, 184, 0, 81, 154, 0, 5, 2, 172, 3, 61, 28, 42, 180, 0, 50, 190, 162, 0, 16, 42]
abbrev dktX0_crumbs_0 : List UInt8 := dkwX0_crumbs_0 ++ dktX0_crumbs_1
theorem dksX0_crumbs_0 : cX0_crumbs.data.toList.drop 0 = dktX0_crumbs_0 := by decide +kernel
theorem dksX0_crumbs_1 : cX0_crumbs.data.toList.drop 23 = dktX0_crumbs_1 := dk_seg dksX0_crumbs_0 23 rfl rfl
theorem dksX0_crumbs_2 : cX0_crumbs.data.toList.drop 47 = dktX0_crumbs_2 := dk_seg dksX0_crumbs_1 24 rfl rfl
theorem dksX0_crumbs_3 : cX0_crumbs.data.toList.drop 70 = dktX0_crumbs_3 := dk_seg dksX0_crumbs_2 23 rfl rfl
theorem dksX0_crumbs_4 : cX0_crumbs.data.toList.drop 93 = dktX0_crumbs_4 := dk_seg dksX0_crumbs_3 23 rfl rfl
theorem dksX0_crumbs_5 : cX0_crumbs.data.toList.drop 117 = dktX0_crumbs_5 := dk_seg dksX0_crumbs_4 24 rfl rfl
theorem dksX0_crumbs_6 : cX0_crumbs.data.toList.drop 141 = dktX0_crumbs_6 := dk_seg dksX0_crumbs_5 24 rfl rfl
theorem dksX0_crumbs_7 : cX0_crumbs.data.toList.drop 164 = dktX0_crumbs_7 := dk_seg dksX0_crumbs_6 23 rfl rfl
theorem dksX0_crumbs_8 : cX0_crumbs.data.toList.drop 188 = dktX0_crumbs_8 := dk_seg dksX0_crumbs_7 24 rfl rfl
theorem dksX0_crumbs_9 : cX0_crumbs.data.toList.drop 211 = dktX0_crumbs_9 := dk_seg dksX0_crumbs_8 23 rfl rfl
theorem dX0_crumbs_0 : decode cX0_crumbs 0 = .ok (.iload_n 1, 1) := dk_27 (dk_at dksX0_crumbs_0 0 rfl rfl)
theorem dX0_crumbs_1 : decode cX0_crumbs 1 = .ok (.iconst 0, 1) := dk_3 (dk_at dksX0_crumbs_0 1 rfl rfl)
theorem dX0_crumbs_2 : decode cX0_crumbs 2 = .ok (.iconst 1, 1) := dk_4 (dk_at dksX0_crumbs_0 2 rfl rfl)
theorem dX0_crumbs_3 : decode cX0_crumbs 3 = .ok (.invokestatic 81, 3) := dk_184 0 81 (dk_at dksX0_crumbs_0 3 rfl rfl)
theorem dX0_crumbs_6 : decode cX0_crumbs 6 = .ok (.ifCond .ne 5, 3) := dk_154 0 5 (dk_at dksX0_crumbs_0 6 rfl rfl)
theorem dX0_crumbs_9 : decode cX0_crumbs 9 = .ok (.iconst (-1), 1) := dk_2 (dk_at dksX0_crumbs_0 9 rfl rfl)
theorem dX0_crumbs_10 : decode cX0_crumbs 10 = .ok (.ireturn, 1) := dk_172 (dk_at dksX0_crumbs_0 10 rfl rfl)
theorem dX0_crumbs_11 : decode cX0_crumbs 11 = .ok (.iconst 0, 1) := dk_3 (dk_at dksX0_crumbs_0 11 rfl rfl)
theorem dX0_crumbs_12 : decode cX0_crumbs 12 = .ok (.istore_n 2, 1) := dk_61 (dk_at dksX0_crumbs_0 12 rfl rfl)
theorem dX0_crumbs_13 : decode cX0_crumbs 13 = .ok (.iload_n 2, 1) := dk_28 (dk_at dksX0_crumbs_0 13 rfl rfl)
theorem dX0_crumbs_14 : decode cX0_crumbs 14 = .ok (.aload_n 0, 1) := dk_42 (dk_at dksX0_crumbs_0 14 rfl rfl)
theorem dX0_crumbs_15 : decode cX0_crumbs 15 = .ok (.getfield 50, 3) := dk_180 0 50 (dk_at dksX0_crumbs_0 15 rfl rfl)
theorem dX0_crumbs_18 : decode cX0_crumbs 18 = .ok (.arraylength, 1) := dk_190 (dk_at dksX0_crumbs_0 18 rfl rfl)
theorem dX0_crumbs_19 : decode cX0_crumbs 19 = .ok (.if_icmp .ge 16, 3) := dk_162 0 16 (dk_at dksX0_crumbs_0 19 rfl rfl)
theorem dX0_crumbs_22 : decode cX0_crumbs 22 = .ok (.aload_n 0, 1) := dk_42 (dk_at dksX0_crumbs_0 22 rfl rfl)
theorem dX0_crumbs_23 : decode cX0_crumbs 23 = .ok (.getfield 50, 3) := dk_180 0 50 (dk_at dksX0_crumbs_1 0 rfl rfl)
theorem dX0_crumbs_26 : decode cX0_crumbs 26 = .ok (.iload_n 2, 1) := dk_28 (dk_at dksX0_crumbs_1 3 rfl rfl)
theorem dX0_crumbs_27 : decode cX0_crumbs 27 = .ok (.iconst 0, 1) := dk_3 (dk_at dksX0_crumbs_1 4 rfl rfl)
theorem dX0_crumbs_28 : decode cX0_crumbs 28 = .ok (.iastore, 1) := dk_79 (dk_at dksX0_crumbs_1 5 rfl rfl)
theorem dX0_crumbs_29 : decode cX0_crumbs 29 = .ok (.iinc 2 1, 3) := dk_132 2 1 (dk_at dksX0_crumbs_1 6 rfl rfl)
theorem dX0_crumbs_32 : decode cX0_crumbs 32 = .ok (.goto (-19), 3) := dk_167 255 237 (dk_at dksX0_crumbs_1 9 rfl rfl)
theorem dX0_crumbs_35 : decode cX0_crumbs 35 = .ok (.iconst 0, 1) := dk_3 (dk_at dksX0_crumbs_1 12 rfl rfl)
theorem dX0_crumbs_36 : decode cX0_crumbs 36 = .ok (.istore_n 2, 1) := dk_61 (dk_at dksX0_crumbs_1 13 rfl rfl)
theorem dX0_crumbs_37 : decode cX0_crumbs 37 = .ok (.iconst 0, 1) := dk_3 (dk_at dksX0_crumbs_1 14 rfl rfl)
theorem dX0_crumbs_38 : decode cX0_crumbs 38 = .ok (.istore_n 3, 1) := dk_62 (dk_at dksX0_crumbs_1 15 rfl rfl)
theorem dX0_crumbs_39 : decode cX0_crumbs 39 = .ok (.aload_n 0, 1) := dk_42 (dk_at dksX0_crumbs_1 16 rfl rfl)
theorem dX0_crumbs_40 : decode cX0_crumbs 40 = .ok (.getfield 50, 3) := dk_180 0 50 (dk_at dksX0_crumbs_1 17 rfl rfl)
theorem dX0_crumbs_43 : decode cX0_crumbs 43 = .ok (.sipush 544, 3) := dk_17 2 32 (dk_at dksX0_crumbs_1 20 rfl rfl)
theorem dX0_crumbs_46 : decode cX0_crumbs 46 = .ok (.dup2, 1) := dk_92 (dk_at dksX0_crumbs_1 23 rfl rfl)
theorem dX0_crumbs_47 : decode cX0_crumbs 47 = .ok (.iaload, 1) := dk_46 (dk_at dksX0_crumbs_2 0 rfl rfl)
theorem dX0_crumbs_48 : decode cX0_crumbs 48 = .ok (.iconst 1, 1) := dk_4 (dk_at dksX0_crumbs_2 1 rfl rfl)
theorem dX0_crumbs_49 : decode cX0_crumbs 49 = .ok (.iadd, 1) := dk_96 (dk_at dksX0_crumbs_2 2 rfl rfl)
theorem dX0_crumbs_50 : decode cX0_crumbs 50 = .ok (.iastore, 1) := dk_79 (dk_at dksX0_crumbs_2 3 rfl rfl)
theorem dX0_crumbs_51 : decode cX0_crumbs 51 = .ok (.iconst 0, 1) := dk_3 (dk_at dksX0_crumbs_2 4 rfl rfl)
theorem dX0_crumbs_52 : decode cX0_crumbs 52 = .ok (.istore 4, 2) := dk_54 4 (dk_at dksX0_crumbs_2 5 rfl rfl)
theorem dX0_crumbs_54 : decode cX0_crumbs 54 = .ok (.iload 4, 2) := dk_21 4 (dk_at dksX0_crumbs_2 7 rfl rfl)
theorem dX0_crumbs_56 : decode cX0_crumbs 56 = .ok (.aload_n 0, 1) := dk_42 (dk_at dksX0_crumbs_2 9 rfl rfl)
theorem dX0_crumbs_57 : decode cX0_crumbs 57 = .ok (.getfield 20, 3) := dk_180 0 20 (dk_at dksX0_crumbs_2 10 rfl rfl)
theorem dX0_crumbs_60 : decode cX0_crumbs 60 = .ok (.getfield 336, 3) := dk_180 1 80 (dk_at dksX0_crumbs_2 13 rfl rfl)
theorem dX0_crumbs_63 : decode cX0_crumbs 63 = .ok (.getfield 299, 3) := dk_180 1 43 (dk_at dksX0_crumbs_2 16 rfl rfl)
theorem dX0_crumbs_66 : decode cX0_crumbs 66 = .ok (.if_icmp .ge 91, 3) := dk_162 0 91 (dk_at dksX0_crumbs_2 19 rfl rfl)
theorem dX0_crumbs_69 : decode cX0_crumbs 69 = .ok (.aload_n 0, 1) := dk_42 (dk_at dksX0_crumbs_2 22 rfl rfl)
theorem dX0_crumbs_70 : decode cX0_crumbs 70 = .ok (.getfield 20, 3) := dk_180 0 20 (dk_at dksX0_crumbs_3 0 rfl rfl)
theorem dX0_crumbs_73 : decode cX0_crumbs 73 = .ok (.getfield 336, 3) := dk_180 1 80 (dk_at dksX0_crumbs_3 3 rfl rfl)
theorem dX0_crumbs_76 : decode cX0_crumbs 76 = .ok (.iload 4, 2) := dk_21 4 (dk_at dksX0_crumbs_3 6 rfl rfl)
theorem dX0_crumbs_78 : decode cX0_crumbs 78 = .ok (.invokevirtual 296, 3) := dk_182 1 40 (dk_at dksX0_crumbs_3 8 rfl rfl)
theorem dX0_crumbs_81 : decode cX0_crumbs 81 = .ok (.istore 5, 2) := dk_54 5 (dk_at dksX0_crumbs_3 11 rfl rfl)
theorem dX0_crumbs_83 : decode cX0_crumbs 83 = .ok (.iload_n 3, 1) := dk_29 (dk_at dksX0_crumbs_3 13 rfl rfl)
theorem dX0_crumbs_84 : decode cX0_crumbs 84 = .ok (.iload 5, 2) := dk_21 5 (dk_at dksX0_crumbs_3 14 rfl rfl)
theorem dX0_crumbs_86 : decode cX0_crumbs 86 = .ok (.ifCond .ne 7, 3) := dk_154 0 7 (dk_at dksX0_crumbs_3 16 rfl rfl)
theorem dX0_crumbs_89 : decode cX0_crumbs 89 = .ok (.iconst 1, 1) := dk_4 (dk_at dksX0_crumbs_3 19 rfl rfl)
theorem dX0_crumbs_90 : decode cX0_crumbs 90 = .ok (.goto 14, 3) := dk_167 0 14 (dk_at dksX0_crumbs_3 20 rfl rfl)
theorem dX0_crumbs_93 : decode cX0_crumbs 93 = .ok (.iload 5, 2) := dk_21 5 (dk_at dksX0_crumbs_4 0 rfl rfl)
theorem dX0_crumbs_95 : decode cX0_crumbs 95 = .ok (.iconst 2, 1) := dk_5 (dk_at dksX0_crumbs_4 2 rfl rfl)
theorem dX0_crumbs_96 : decode cX0_crumbs 96 = .ok (.if_icmp .ne 7, 3) := dk_160 0 7 (dk_at dksX0_crumbs_4 3 rfl rfl)
theorem dX0_crumbs_99 : decode cX0_crumbs 99 = .ok (.iconst (-1), 1) := dk_2 (dk_at dksX0_crumbs_4 6 rfl rfl)
theorem dX0_crumbs_100 : decode cX0_crumbs 100 = .ok (.goto 4, 3) := dk_167 0 4 (dk_at dksX0_crumbs_4 7 rfl rfl)
theorem dX0_crumbs_103 : decode cX0_crumbs 103 = .ok (.iconst 0, 1) := dk_3 (dk_at dksX0_crumbs_4 10 rfl rfl)
theorem dX0_crumbs_104 : decode cX0_crumbs 104 = .ok (.iadd, 1) := dk_96 (dk_at dksX0_crumbs_4 11 rfl rfl)
theorem dX0_crumbs_105 : decode cX0_crumbs 105 = .ok (.istore_n 3, 1) := dk_62 (dk_at dksX0_crumbs_4 12 rfl rfl)
theorem dX0_crumbs_106 : decode cX0_crumbs 106 = .ok (.iload_n 2, 1) := dk_28 (dk_at dksX0_crumbs_4 13 rfl rfl)
theorem dX0_crumbs_107 : decode cX0_crumbs 107 = .ok (.iload 5, 2) := dk_21 5 (dk_at dksX0_crumbs_4 14 rfl rfl)
theorem dX0_crumbs_109 : decode cX0_crumbs 109 = .ok (.iconst 1, 1) := dk_4 (dk_at dksX0_crumbs_4 16 rfl rfl)
theorem dX0_crumbs_110 : decode cX0_crumbs 110 = .ok (.if_icmp .ne 7, 3) := dk_160 0 7 (dk_at dksX0_crumbs_4 17 rfl rfl)
theorem dX0_crumbs_113 : decode cX0_crumbs 113 = .ok (.iconst 1, 1) := dk_4 (dk_at dksX0_crumbs_4 20 rfl rfl)
theorem dX0_crumbs_114 : decode cX0_crumbs 114 = .ok (.goto 14, 3) := dk_167 0 14 (dk_at dksX0_crumbs_4 21 rfl rfl)
theorem dX0_crumbs_117 : decode cX0_crumbs 117 = .ok (.iload 5, 2) := dk_21 5 (dk_at dksX0_crumbs_5 0 rfl rfl)
theorem dX0_crumbs_119 : decode cX0_crumbs 119 = .ok (.iconst 3, 1) := dk_6 (dk_at dksX0_crumbs_5 2 rfl rfl)
theorem dX0_crumbs_120 : decode cX0_crumbs 120 = .ok (.if_icmp .ne 7, 3) := dk_160 0 7 (dk_at dksX0_crumbs_5 3 rfl rfl)
theorem dX0_crumbs_123 : decode cX0_crumbs 123 = .ok (.iconst (-1), 1) := dk_2 (dk_at dksX0_crumbs_5 6 rfl rfl)
theorem dX0_crumbs_124 : decode cX0_crumbs 124 = .ok (.goto 4, 3) := dk_167 0 4 (dk_at dksX0_crumbs_5 7 rfl rfl)
theorem dX0_crumbs_127 : decode cX0_crumbs 127 = .ok (.iconst 0, 1) := dk_3 (dk_at dksX0_crumbs_5 10 rfl rfl)
theorem dX0_crumbs_128 : decode cX0_crumbs 128 = .ok (.iadd, 1) := dk_96 (dk_at dksX0_crumbs_5 11 rfl rfl)
theorem dX0_crumbs_129 : decode cX0_crumbs 129 = .ok (.istore_n 2, 1) := dk_61 (dk_at dksX0_crumbs_5 12 rfl rfl)
theorem dX0_crumbs_130 : decode cX0_crumbs 130 = .ok (.aload_n 0, 1) := dk_42 (dk_at dksX0_crumbs_5 13 rfl rfl)
theorem dX0_crumbs_131 : decode cX0_crumbs 131 = .ok (.getfield 50, 3) := dk_180 0 50 (dk_at dksX0_crumbs_5 14 rfl rfl)
theorem dX0_crumbs_134 : decode cX0_crumbs 134 = .ok (.bipush 33, 2) := dk_16 33 (dk_at dksX0_crumbs_5 17 rfl rfl)
theorem dX0_crumbs_136 : decode cX0_crumbs 136 = .ok (.iload_n 3, 1) := dk_29 (dk_at dksX0_crumbs_5 19 rfl rfl)
theorem dX0_crumbs_137 : decode cX0_crumbs 137 = .ok (.bipush 16, 2) := dk_16 16 (dk_at dksX0_crumbs_5 20 rfl rfl)
theorem dX0_crumbs_139 : decode cX0_crumbs 139 = .ok (.iadd, 1) := dk_96 (dk_at dksX0_crumbs_5 22 rfl rfl)
theorem dX0_crumbs_140 : decode cX0_crumbs 140 = .ok (.imul, 1) := dk_104 (dk_at dksX0_crumbs_5 23 rfl rfl)
theorem dX0_crumbs_141 : decode cX0_crumbs 141 = .ok (.iload_n 2, 1) := dk_28 (dk_at dksX0_crumbs_6 0 rfl rfl)
theorem dX0_crumbs_142 : decode cX0_crumbs 142 = .ok (.iadd, 1) := dk_96 (dk_at dksX0_crumbs_6 1 rfl rfl)
theorem dX0_crumbs_143 : decode cX0_crumbs 143 = .ok (.bipush 16, 2) := dk_16 16 (dk_at dksX0_crumbs_6 2 rfl rfl)
theorem dX0_crumbs_145 : decode cX0_crumbs 145 = .ok (.iadd, 1) := dk_96 (dk_at dksX0_crumbs_6 4 rfl rfl)
theorem dX0_crumbs_146 : decode cX0_crumbs 146 = .ok (.dup2, 1) := dk_92 (dk_at dksX0_crumbs_6 5 rfl rfl)
theorem dX0_crumbs_147 : decode cX0_crumbs 147 = .ok (.iaload, 1) := dk_46 (dk_at dksX0_crumbs_6 6 rfl rfl)
theorem dX0_crumbs_148 : decode cX0_crumbs 148 = .ok (.iconst 1, 1) := dk_4 (dk_at dksX0_crumbs_6 7 rfl rfl)
theorem dX0_crumbs_149 : decode cX0_crumbs 149 = .ok (.iadd, 1) := dk_96 (dk_at dksX0_crumbs_6 8 rfl rfl)
theorem dX0_crumbs_150 : decode cX0_crumbs 150 = .ok (.iastore, 1) := dk_79 (dk_at dksX0_crumbs_6 9 rfl rfl)
theorem dX0_crumbs_151 : decode cX0_crumbs 151 = .ok (.iinc 4 1, 3) := dk_132 4 1 (dk_at dksX0_crumbs_6 10 rfl rfl)
theorem dX0_crumbs_154 : decode cX0_crumbs 154 = .ok (.goto (-100), 3) := dk_167 255 156 (dk_at dksX0_crumbs_6 13 rfl rfl)
theorem dX0_crumbs_157 : decode cX0_crumbs 157 = .ok (.iconst 0, 1) := dk_3 (dk_at dksX0_crumbs_6 16 rfl rfl)
theorem dX0_crumbs_158 : decode cX0_crumbs 158 = .ok (.istore 4, 2) := dk_54 4 (dk_at dksX0_crumbs_6 17 rfl rfl)
theorem dX0_crumbs_160 : decode cX0_crumbs 160 = .ok (.aload_n 0, 1) := dk_42 (dk_at dksX0_crumbs_6 19 rfl rfl)
theorem dX0_crumbs_161 : decode cX0_crumbs 161 = .ok (.getfield 50, 3) := dk_180 0 50 (dk_at dksX0_crumbs_6 20 rfl rfl)
theorem dX0_crumbs_164 : decode cX0_crumbs 164 = .ok (.astore 5, 2) := dk_58 5 (dk_at dksX0_crumbs_7 0 rfl rfl)
theorem dX0_crumbs_166 : decode cX0_crumbs 166 = .ok (.aload 5, 2) := dk_25 5 (dk_at dksX0_crumbs_7 2 rfl rfl)
theorem dX0_crumbs_168 : decode cX0_crumbs 168 = .ok (.arraylength, 1) := dk_190 (dk_at dksX0_crumbs_7 4 rfl rfl)
theorem dX0_crumbs_169 : decode cX0_crumbs 169 = .ok (.istore 6, 2) := dk_54 6 (dk_at dksX0_crumbs_7 5 rfl rfl)
theorem dX0_crumbs_171 : decode cX0_crumbs 171 = .ok (.iconst 0, 1) := dk_3 (dk_at dksX0_crumbs_7 7 rfl rfl)
theorem dX0_crumbs_172 : decode cX0_crumbs 172 = .ok (.istore 7, 2) := dk_54 7 (dk_at dksX0_crumbs_7 8 rfl rfl)
theorem dX0_crumbs_174 : decode cX0_crumbs 174 = .ok (.iload 7, 2) := dk_21 7 (dk_at dksX0_crumbs_7 10 rfl rfl)
theorem dX0_crumbs_176 : decode cX0_crumbs 176 = .ok (.iload 6, 2) := dk_21 6 (dk_at dksX0_crumbs_7 12 rfl rfl)
theorem dX0_crumbs_178 : decode cX0_crumbs 178 = .ok (.if_icmp .ge 32, 3) := dk_162 0 32 (dk_at dksX0_crumbs_7 14 rfl rfl)
theorem dX0_crumbs_181 : decode cX0_crumbs 181 = .ok (.aload 5, 2) := dk_25 5 (dk_at dksX0_crumbs_7 17 rfl rfl)
theorem dX0_crumbs_183 : decode cX0_crumbs 183 = .ok (.iload 7, 2) := dk_21 7 (dk_at dksX0_crumbs_7 19 rfl rfl)
theorem dX0_crumbs_185 : decode cX0_crumbs 185 = .ok (.iaload, 1) := dk_46 (dk_at dksX0_crumbs_7 21 rfl rfl)
theorem dX0_crumbs_186 : decode cX0_crumbs 186 = .ok (.istore 8, 2) := dk_54 8 (dk_at dksX0_crumbs_7 22 rfl rfl)
theorem dX0_crumbs_188 : decode cX0_crumbs 188 = .ok (.iload 4, 2) := dk_21 4 (dk_at dksX0_crumbs_8 0 rfl rfl)
theorem dX0_crumbs_190 : decode cX0_crumbs 190 = .ok (.iload 8, 2) := dk_21 8 (dk_at dksX0_crumbs_8 2 rfl rfl)
theorem dX0_crumbs_192 : decode cX0_crumbs 192 = .ok (.iconst 1, 1) := dk_4 (dk_at dksX0_crumbs_8 4 rfl rfl)
theorem dX0_crumbs_193 : decode cX0_crumbs 193 = .ok (.if_icmp .le 7, 3) := dk_164 0 7 (dk_at dksX0_crumbs_8 5 rfl rfl)
theorem dX0_crumbs_196 : decode cX0_crumbs 196 = .ok (.iconst 1, 1) := dk_4 (dk_at dksX0_crumbs_8 8 rfl rfl)
theorem dX0_crumbs_197 : decode cX0_crumbs 197 = .ok (.goto 4, 3) := dk_167 0 4 (dk_at dksX0_crumbs_8 9 rfl rfl)
theorem dX0_crumbs_200 : decode cX0_crumbs 200 = .ok (.iconst 0, 1) := dk_3 (dk_at dksX0_crumbs_8 12 rfl rfl)
theorem dX0_crumbs_201 : decode cX0_crumbs 201 = .ok (.iadd, 1) := dk_96 (dk_at dksX0_crumbs_8 13 rfl rfl)
theorem dX0_crumbs_202 : decode cX0_crumbs 202 = .ok (.istore 4, 2) := dk_54 4 (dk_at dksX0_crumbs_8 14 rfl rfl)
theorem dX0_crumbs_204 : decode cX0_crumbs 204 = .ok (.iinc 7 1, 3) := dk_132 7 1 (dk_at dksX0_crumbs_8 16 rfl rfl)
theorem dX0_crumbs_207 : decode cX0_crumbs 207 = .ok (.goto (-33), 3) := dk_167 255 223 (dk_at dksX0_crumbs_8 19 rfl rfl)
theorem dX0_crumbs_210 : decode cX0_crumbs 210 = .ok (.iload_n 1, 1) := dk_27 (dk_at dksX0_crumbs_8 22 rfl rfl)
theorem dX0_crumbs_211 : decode cX0_crumbs 211 = .ok (.ifCond .ne 15, 3) := dk_154 0 15 (dk_at dksX0_crumbs_9 0 rfl rfl)
theorem dX0_crumbs_214 : decode cX0_crumbs 214 = .ok (.iload_n 2, 1) := dk_28 (dk_at dksX0_crumbs_9 3 rfl rfl)
theorem dX0_crumbs_215 : decode cX0_crumbs 215 = .ok (.invokestatic 320, 3) := dk_184 1 64 (dk_at dksX0_crumbs_9 4 rfl rfl)
theorem dX0_crumbs_218 : decode cX0_crumbs 218 = .ok (.iload_n 3, 1) := dk_29 (dk_at dksX0_crumbs_9 7 rfl rfl)
theorem dX0_crumbs_219 : decode cX0_crumbs 219 = .ok (.invokestatic 320, 3) := dk_184 1 64 (dk_at dksX0_crumbs_9 8 rfl rfl)
theorem dX0_crumbs_222 : decode cX0_crumbs 222 = .ok (.iadd, 1) := dk_96 (dk_at dksX0_crumbs_9 11 rfl rfl)
theorem dX0_crumbs_223 : decode cX0_crumbs 223 = .ok (.goto 5, 3) := dk_167 0 5 (dk_at dksX0_crumbs_9 12 rfl rfl)
theorem dX0_crumbs_226 : decode cX0_crumbs 226 = .ok (.iload 4, 2) := dk_21 4 (dk_at dksX0_crumbs_9 15 rfl rfl)
theorem dX0_crumbs_228 : decode cX0_crumbs 228 = .ok (.ireturn, 1) := dk_172 (dk_at dksX0_crumbs_9 17 rfl rfl)
abbrev cX0_loaf : ByteArray := prog_1_method_49_code
def yX0_loaf : MethodName := ⟨RX0, "loaf", "(II)I"⟩
def dkwX0_loaf_2 : List UInt8 := [28, 182, 1, 37, 167, 0, 4, 2, 172]
abbrev dktX0_loaf_2 : List UInt8 := dkwX0_loaf_2 ++ []
def dkwX0_loaf_1 : List UInt8 := [184, 0, 81, 153, 0, 28, 28, 4, 16, 30, 184, 0, 81, 153, 0, 18, 42, 180, 0, 20, 180, 1, 83, 27]
abbrev dktX0_loaf_1 : List UInt8 := dkwX0_loaf_1 ++ dktX0_loaf_2
def dkwX0_loaf_0 : List UInt8 := [27, 2, 160, 0, 16, 42, 180, 0, 20, 180, 1, 83, 182, 1, 32, 167, 0, 39, 27, 4, 16, 30]
abbrev dktX0_loaf_0 : List UInt8 := dkwX0_loaf_0 ++ dktX0_loaf_1
theorem dksX0_loaf_0 : cX0_loaf.data.toList.drop 0 = dktX0_loaf_0 := by decide +kernel
theorem dksX0_loaf_1 : cX0_loaf.data.toList.drop 22 = dktX0_loaf_1 := dk_seg dksX0_loaf_0 22 rfl rfl
theorem dksX0_loaf_2 : cX0_loaf.data.toList.drop 46 = dktX0_loaf_2 := dk_seg dksX0_loaf_1 24 rfl rfl
theorem dX0_loaf_0 : decode cX0_loaf 0 = .ok (.iload_n 1, 1) := dk_27 (dk_at dksX0_loaf_0 0 rfl rfl)
theorem dX0_loaf_1 : decode cX0_loaf 1 = .ok (.iconst (-1), 1) := dk_2 (dk_at dksX0_loaf_0 1 rfl rfl)
theorem dX0_loaf_2 : decode cX0_loaf 2 = .ok (.if_icmp .ne 16, 3) := dk_160 0 16 (dk_at dksX0_loaf_0 2 rfl rfl)
theorem dX0_loaf_5 : decode cX0_loaf 5 = .ok (.aload_n 0, 1) := dk_42 (dk_at dksX0_loaf_0 5 rfl rfl)
theorem dX0_loaf_6 : decode cX0_loaf 6 = .ok (.getfield 20, 3) := dk_180 0 20 (dk_at dksX0_loaf_0 6 rfl rfl)
theorem dX0_loaf_9 : decode cX0_loaf 9 = .ok (.getfield 339, 3) := dk_180 1 83 (dk_at dksX0_loaf_0 9 rfl rfl)
theorem dX0_loaf_12 : decode cX0_loaf 12 = .ok (.invokevirtual 288, 3) := dk_182 1 32 (dk_at dksX0_loaf_0 12 rfl rfl)
theorem dX0_loaf_15 : decode cX0_loaf 15 = .ok (.goto 39, 3) := dk_167 0 39 (dk_at dksX0_loaf_0 15 rfl rfl)
theorem dX0_loaf_18 : decode cX0_loaf 18 = .ok (.iload_n 1, 1) := dk_27 (dk_at dksX0_loaf_0 18 rfl rfl)
theorem dX0_loaf_19 : decode cX0_loaf 19 = .ok (.iconst 1, 1) := dk_4 (dk_at dksX0_loaf_0 19 rfl rfl)
theorem dX0_loaf_20 : decode cX0_loaf 20 = .ok (.bipush 30, 2) := dk_16 30 (dk_at dksX0_loaf_0 20 rfl rfl)
theorem dX0_loaf_22 : decode cX0_loaf 22 = .ok (.invokestatic 81, 3) := dk_184 0 81 (dk_at dksX0_loaf_1 0 rfl rfl)
theorem dX0_loaf_25 : decode cX0_loaf 25 = .ok (.ifCond .eq 28, 3) := dk_153 0 28 (dk_at dksX0_loaf_1 3 rfl rfl)
theorem dX0_loaf_28 : decode cX0_loaf 28 = .ok (.iload_n 2, 1) := dk_28 (dk_at dksX0_loaf_1 6 rfl rfl)
theorem dX0_loaf_29 : decode cX0_loaf 29 = .ok (.iconst 1, 1) := dk_4 (dk_at dksX0_loaf_1 7 rfl rfl)
theorem dX0_loaf_30 : decode cX0_loaf 30 = .ok (.bipush 30, 2) := dk_16 30 (dk_at dksX0_loaf_1 8 rfl rfl)
theorem dX0_loaf_32 : decode cX0_loaf 32 = .ok (.invokestatic 81, 3) := dk_184 0 81 (dk_at dksX0_loaf_1 10 rfl rfl)
theorem dX0_loaf_35 : decode cX0_loaf 35 = .ok (.ifCond .eq 18, 3) := dk_153 0 18 (dk_at dksX0_loaf_1 13 rfl rfl)
theorem dX0_loaf_38 : decode cX0_loaf 38 = .ok (.aload_n 0, 1) := dk_42 (dk_at dksX0_loaf_1 16 rfl rfl)
theorem dX0_loaf_39 : decode cX0_loaf 39 = .ok (.getfield 20, 3) := dk_180 0 20 (dk_at dksX0_loaf_1 17 rfl rfl)
theorem dX0_loaf_42 : decode cX0_loaf 42 = .ok (.getfield 339, 3) := dk_180 1 83 (dk_at dksX0_loaf_1 20 rfl rfl)
theorem dX0_loaf_45 : decode cX0_loaf 45 = .ok (.iload_n 1, 1) := dk_27 (dk_at dksX0_loaf_1 23 rfl rfl)
theorem dX0_loaf_46 : decode cX0_loaf 46 = .ok (.iload_n 2, 1) := dk_28 (dk_at dksX0_loaf_2 0 rfl rfl)
theorem dX0_loaf_47 : decode cX0_loaf 47 = .ok (.invokevirtual 293, 3) := dk_182 1 37 (dk_at dksX0_loaf_2 1 rfl rfl)
theorem dX0_loaf_50 : decode cX0_loaf 50 = .ok (.goto 4, 3) := dk_167 0 4 (dk_at dksX0_loaf_2 4 rfl rfl)
theorem dX0_loaf_53 : decode cX0_loaf 53 = .ok (.iconst (-1), 1) := dk_2 (dk_at dksX0_loaf_2 7 rfl rfl)
theorem dX0_loaf_54 : decode cX0_loaf 54 = .ok (.ireturn, 1) := dk_172 (dk_at dksX0_loaf_2 8 rfl rfl)
abbrev cX0_ovens : ByteArray := prog_1_method_51_code
def yX0_ovens : MethodName := ⟨RX0, "ovens", "(I)I"⟩
def dkwX0_ovens_2 : List UInt8 := [42, 180, 1, 86, 167, 0, 12, 42, 180, 0, 56, 27, 16, 10, 100, 46, 172]
abbrev dktX0_ovens_2 : List UInt8 := dkwX0_ovens_2 ++ []
def dkwX0_ovens_1 : List UInt8 := [154, 0, 5, 2, 172, 42, 19, 1, 16, 181, 1, 86, 42, 3, 3, 3, 3, 182, 1, 89, 27, 154, 0, 10]
abbrev dktX0_ovens_1 : List UInt8 := dkwX0_ovens_1 ++ dktX0_ovens_2
def dkwX0_ovens_0 : List UInt8 := [27, 153, 0, 27, 27, 16, 10, 16, 9, 42, 180, 0, 20, 180, 1, 83, 180, 1, 43, 96, 184, 0, 81]
abbrev dktX0_ovens_0 : List UInt8 := dkwX0_ovens_0 ++ dktX0_ovens_1
theorem dksX0_ovens_0 : cX0_ovens.data.toList.drop 0 = dktX0_ovens_0 := by decide +kernel
theorem dksX0_ovens_1 : cX0_ovens.data.toList.drop 23 = dktX0_ovens_1 := dk_seg dksX0_ovens_0 23 rfl rfl
theorem dksX0_ovens_2 : cX0_ovens.data.toList.drop 47 = dktX0_ovens_2 := dk_seg dksX0_ovens_1 24 rfl rfl
theorem dX0_ovens_0 : decode cX0_ovens 0 = .ok (.iload_n 1, 1) := dk_27 (dk_at dksX0_ovens_0 0 rfl rfl)
theorem dX0_ovens_1 : decode cX0_ovens 1 = .ok (.ifCond .eq 27, 3) := dk_153 0 27 (dk_at dksX0_ovens_0 1 rfl rfl)
theorem dX0_ovens_4 : decode cX0_ovens 4 = .ok (.iload_n 1, 1) := dk_27 (dk_at dksX0_ovens_0 4 rfl rfl)
theorem dX0_ovens_5 : decode cX0_ovens 5 = .ok (.bipush 10, 2) := dk_16 10 (dk_at dksX0_ovens_0 5 rfl rfl)
theorem dX0_ovens_7 : decode cX0_ovens 7 = .ok (.bipush 9, 2) := dk_16 9 (dk_at dksX0_ovens_0 7 rfl rfl)
theorem dX0_ovens_9 : decode cX0_ovens 9 = .ok (.aload_n 0, 1) := dk_42 (dk_at dksX0_ovens_0 9 rfl rfl)
theorem dX0_ovens_10 : decode cX0_ovens 10 = .ok (.getfield 20, 3) := dk_180 0 20 (dk_at dksX0_ovens_0 10 rfl rfl)
theorem dX0_ovens_13 : decode cX0_ovens 13 = .ok (.getfield 339, 3) := dk_180 1 83 (dk_at dksX0_ovens_0 13 rfl rfl)
theorem dX0_ovens_16 : decode cX0_ovens 16 = .ok (.getfield 299, 3) := dk_180 1 43 (dk_at dksX0_ovens_0 16 rfl rfl)
theorem dX0_ovens_19 : decode cX0_ovens 19 = .ok (.iadd, 1) := dk_96 (dk_at dksX0_ovens_0 19 rfl rfl)
theorem dX0_ovens_20 : decode cX0_ovens 20 = .ok (.invokestatic 81, 3) := dk_184 0 81 (dk_at dksX0_ovens_0 20 rfl rfl)
theorem dX0_ovens_23 : decode cX0_ovens 23 = .ok (.ifCond .ne 5, 3) := dk_154 0 5 (dk_at dksX0_ovens_1 0 rfl rfl)
theorem dX0_ovens_26 : decode cX0_ovens 26 = .ok (.iconst (-1), 1) := dk_2 (dk_at dksX0_ovens_1 3 rfl rfl)
theorem dX0_ovens_27 : decode cX0_ovens 27 = .ok (.ireturn, 1) := dk_172 (dk_at dksX0_ovens_1 4 rfl rfl)
theorem dX0_ovens_28 : decode cX0_ovens 28 = .ok (.aload_n 0, 1) := dk_42 (dk_at dksX0_ovens_1 5 rfl rfl)
theorem dX0_ovens_29 : decode cX0_ovens 29 = .ok (.ldc_w 272, 3) := dk_19 1 16 (dk_at dksX0_ovens_1 6 rfl rfl)
theorem dX0_ovens_32 : decode cX0_ovens 32 = .ok (.putfield 342, 3) := dk_181 1 86 (dk_at dksX0_ovens_1 9 rfl rfl)
theorem dX0_ovens_35 : decode cX0_ovens 35 = .ok (.aload_n 0, 1) := dk_42 (dk_at dksX0_ovens_1 12 rfl rfl)
theorem dX0_ovens_36 : decode cX0_ovens 36 = .ok (.iconst 0, 1) := dk_3 (dk_at dksX0_ovens_1 13 rfl rfl)
theorem dX0_ovens_37 : decode cX0_ovens 37 = .ok (.iconst 0, 1) := dk_3 (dk_at dksX0_ovens_1 14 rfl rfl)
theorem dX0_ovens_38 : decode cX0_ovens 38 = .ok (.iconst 0, 1) := dk_3 (dk_at dksX0_ovens_1 15 rfl rfl)
theorem dX0_ovens_39 : decode cX0_ovens 39 = .ok (.iconst 0, 1) := dk_3 (dk_at dksX0_ovens_1 16 rfl rfl)
theorem dX0_ovens_40 : decode cX0_ovens 40 = .ok (.invokevirtual 345, 3) := dk_182 1 89 (dk_at dksX0_ovens_1 17 rfl rfl)
theorem dX0_ovens_43 : decode cX0_ovens 43 = .ok (.iload_n 1, 1) := dk_27 (dk_at dksX0_ovens_1 20 rfl rfl)
theorem dX0_ovens_44 : decode cX0_ovens 44 = .ok (.ifCond .ne 10, 3) := dk_154 0 10 (dk_at dksX0_ovens_1 21 rfl rfl)
theorem dX0_ovens_47 : decode cX0_ovens 47 = .ok (.aload_n 0, 1) := dk_42 (dk_at dksX0_ovens_2 0 rfl rfl)
theorem dX0_ovens_48 : decode cX0_ovens 48 = .ok (.getfield 342, 3) := dk_180 1 86 (dk_at dksX0_ovens_2 1 rfl rfl)
theorem dX0_ovens_51 : decode cX0_ovens 51 = .ok (.goto 12, 3) := dk_167 0 12 (dk_at dksX0_ovens_2 4 rfl rfl)
theorem dX0_ovens_54 : decode cX0_ovens 54 = .ok (.aload_n 0, 1) := dk_42 (dk_at dksX0_ovens_2 7 rfl rfl)
theorem dX0_ovens_55 : decode cX0_ovens 55 = .ok (.getfield 56, 3) := dk_180 0 56 (dk_at dksX0_ovens_2 8 rfl rfl)
theorem dX0_ovens_58 : decode cX0_ovens 58 = .ok (.iload_n 1, 1) := dk_27 (dk_at dksX0_ovens_2 11 rfl rfl)
theorem dX0_ovens_59 : decode cX0_ovens 59 = .ok (.bipush 10, 2) := dk_16 10 (dk_at dksX0_ovens_2 12 rfl rfl)
theorem dX0_ovens_61 : decode cX0_ovens 61 = .ok (.isub, 1) := dk_100 (dk_at dksX0_ovens_2 14 rfl rfl)
theorem dX0_ovens_62 : decode cX0_ovens 62 = .ok (.iaload, 1) := dk_46 (dk_at dksX0_ovens_2 15 rfl rfl)
theorem dX0_ovens_63 : decode cX0_ovens 63 = .ok (.ireturn, 1) := dk_172 (dk_at dksX0_ovens_2 16 rfl rfl)
abbrev cX0_stand : ByteArray := prog_1_method_50_code
def yX0_stand : MethodName := ⟨RX0, "stand", "(IIII)V"⟩
def dkwX0_stand_6 : List UInt8 := [182, 1, 89, 132, 6, 1, 167, 255, 174, 177]
abbrev dktX0_stand_6 : List UInt8 := dkwX0_stand_6 ++ []
def dkwX0_stand_5 : List UInt8 := [4, 96, 21, 7, 21, 7, 21, 4, 184, 0, 71, 42, 180, 0, 20, 180, 1, 83, 21, 6, 182, 1, 77, 96]
abbrev dktX0_stand_5 : List UInt8 := dkwX0_stand_5 ++ dktX0_stand_6
def dkwX0_stand_4 : List UInt8 := [29, 42, 180, 0, 20, 180, 1, 83, 21, 6, 182, 1, 40, 96, 54, 7, 42, 27, 4, 21, 6, 120, 128, 28]
abbrev dktX0_stand_4 : List UInt8 := dkwX0_stand_4 ++ dktX0_stand_5
def dkwX0_stand_3 : List UInt8 := [162, 0, 81, 27, 21, 6, 122, 4, 126, 4, 160, 0, 6, 167, 0, 62, 42, 180, 0, 53, 28, 21, 6, 79]
abbrev dktX0_stand_3 : List UInt8 := dkwX0_stand_3 ++ dktX0_stand_4
def dkwX0_stand_2 : List UInt8 := [21, 6, 42, 180, 0, 53, 21, 6, 46, 79, 132, 6, 1, 167, 255, 232, 177, 3, 54, 6, 21, 6, 21, 5]
abbrev dktX0_stand_2 : List UInt8 := dkwX0_stand_2 ++ dktX0_stand_3
def dkwX0_stand_1 : List UInt8 := [161, 0, 4, 177, 42, 21, 4, 181, 1, 86, 3, 54, 6, 21, 6, 21, 5, 162, 0, 23, 42, 180, 0, 56]
abbrev dktX0_stand_1 : List UInt8 := dkwX0_stand_1 ++ dktX0_stand_2
def dkwX0_stand_0 : List UInt8 := [42, 180, 0, 20, 180, 1, 83, 180, 1, 43, 54, 5, 28, 21, 5, 160, 0, 50, 21, 4, 42, 180, 1, 86]
abbrev dktX0_stand_0 : List UInt8 := dkwX0_stand_0 ++ dktX0_stand_1
theorem dksX0_stand_0 : cX0_stand.data.toList.drop 0 = dktX0_stand_0 := by decide +kernel
theorem dksX0_stand_1 : cX0_stand.data.toList.drop 24 = dktX0_stand_1 := dk_seg dksX0_stand_0 24 rfl rfl
theorem dksX0_stand_2 : cX0_stand.data.toList.drop 48 = dktX0_stand_2 := dk_seg dksX0_stand_1 24 rfl rfl
theorem dksX0_stand_3 : cX0_stand.data.toList.drop 72 = dktX0_stand_3 := dk_seg dksX0_stand_2 24 rfl rfl
theorem dksX0_stand_4 : cX0_stand.data.toList.drop 96 = dktX0_stand_4 := dk_seg dksX0_stand_3 24 rfl rfl
theorem dksX0_stand_5 : cX0_stand.data.toList.drop 120 = dktX0_stand_5 := dk_seg dksX0_stand_4 24 rfl rfl
theorem dksX0_stand_6 : cX0_stand.data.toList.drop 144 = dktX0_stand_6 := dk_seg dksX0_stand_5 24 rfl rfl
theorem dX0_stand_0 : decode cX0_stand 0 = .ok (.aload_n 0, 1) := dk_42 (dk_at dksX0_stand_0 0 rfl rfl)
theorem dX0_stand_1 : decode cX0_stand 1 = .ok (.getfield 20, 3) := dk_180 0 20 (dk_at dksX0_stand_0 1 rfl rfl)
theorem dX0_stand_4 : decode cX0_stand 4 = .ok (.getfield 339, 3) := dk_180 1 83 (dk_at dksX0_stand_0 4 rfl rfl)
theorem dX0_stand_7 : decode cX0_stand 7 = .ok (.getfield 299, 3) := dk_180 1 43 (dk_at dksX0_stand_0 7 rfl rfl)
theorem dX0_stand_10 : decode cX0_stand 10 = .ok (.istore 5, 2) := dk_54 5 (dk_at dksX0_stand_0 10 rfl rfl)
theorem dX0_stand_12 : decode cX0_stand 12 = .ok (.iload_n 2, 1) := dk_28 (dk_at dksX0_stand_0 12 rfl rfl)
theorem dX0_stand_13 : decode cX0_stand 13 = .ok (.iload 5, 2) := dk_21 5 (dk_at dksX0_stand_0 13 rfl rfl)
theorem dX0_stand_15 : decode cX0_stand 15 = .ok (.if_icmp .ne 50, 3) := dk_160 0 50 (dk_at dksX0_stand_0 15 rfl rfl)
theorem dX0_stand_18 : decode cX0_stand 18 = .ok (.iload 4, 2) := dk_21 4 (dk_at dksX0_stand_0 18 rfl rfl)
theorem dX0_stand_20 : decode cX0_stand 20 = .ok (.aload_n 0, 1) := dk_42 (dk_at dksX0_stand_0 20 rfl rfl)
theorem dX0_stand_21 : decode cX0_stand 21 = .ok (.getfield 342, 3) := dk_180 1 86 (dk_at dksX0_stand_0 21 rfl rfl)
theorem dX0_stand_24 : decode cX0_stand 24 = .ok (.if_icmp .lt 4, 3) := dk_161 0 4 (dk_at dksX0_stand_1 0 rfl rfl)
theorem dX0_stand_27 : decode cX0_stand 27 = .ok (.return_, 1) := dk_177 (dk_at dksX0_stand_1 3 rfl rfl)
theorem dX0_stand_28 : decode cX0_stand 28 = .ok (.aload_n 0, 1) := dk_42 (dk_at dksX0_stand_1 4 rfl rfl)
theorem dX0_stand_29 : decode cX0_stand 29 = .ok (.iload 4, 2) := dk_21 4 (dk_at dksX0_stand_1 5 rfl rfl)
theorem dX0_stand_31 : decode cX0_stand 31 = .ok (.putfield 342, 3) := dk_181 1 86 (dk_at dksX0_stand_1 7 rfl rfl)
theorem dX0_stand_34 : decode cX0_stand 34 = .ok (.iconst 0, 1) := dk_3 (dk_at dksX0_stand_1 10 rfl rfl)
theorem dX0_stand_35 : decode cX0_stand 35 = .ok (.istore 6, 2) := dk_54 6 (dk_at dksX0_stand_1 11 rfl rfl)
theorem dX0_stand_37 : decode cX0_stand 37 = .ok (.iload 6, 2) := dk_21 6 (dk_at dksX0_stand_1 13 rfl rfl)
theorem dX0_stand_39 : decode cX0_stand 39 = .ok (.iload 5, 2) := dk_21 5 (dk_at dksX0_stand_1 15 rfl rfl)
theorem dX0_stand_41 : decode cX0_stand 41 = .ok (.if_icmp .ge 23, 3) := dk_162 0 23 (dk_at dksX0_stand_1 17 rfl rfl)
theorem dX0_stand_44 : decode cX0_stand 44 = .ok (.aload_n 0, 1) := dk_42 (dk_at dksX0_stand_1 20 rfl rfl)
theorem dX0_stand_45 : decode cX0_stand 45 = .ok (.getfield 56, 3) := dk_180 0 56 (dk_at dksX0_stand_1 21 rfl rfl)
theorem dX0_stand_48 : decode cX0_stand 48 = .ok (.iload 6, 2) := dk_21 6 (dk_at dksX0_stand_2 0 rfl rfl)
theorem dX0_stand_50 : decode cX0_stand 50 = .ok (.aload_n 0, 1) := dk_42 (dk_at dksX0_stand_2 2 rfl rfl)
theorem dX0_stand_51 : decode cX0_stand 51 = .ok (.getfield 53, 3) := dk_180 0 53 (dk_at dksX0_stand_2 3 rfl rfl)
theorem dX0_stand_54 : decode cX0_stand 54 = .ok (.iload 6, 2) := dk_21 6 (dk_at dksX0_stand_2 6 rfl rfl)
theorem dX0_stand_56 : decode cX0_stand 56 = .ok (.iaload, 1) := dk_46 (dk_at dksX0_stand_2 8 rfl rfl)
theorem dX0_stand_57 : decode cX0_stand 57 = .ok (.iastore, 1) := dk_79 (dk_at dksX0_stand_2 9 rfl rfl)
theorem dX0_stand_58 : decode cX0_stand 58 = .ok (.iinc 6 1, 3) := dk_132 6 1 (dk_at dksX0_stand_2 10 rfl rfl)
theorem dX0_stand_61 : decode cX0_stand 61 = .ok (.goto (-24), 3) := dk_167 255 232 (dk_at dksX0_stand_2 13 rfl rfl)
theorem dX0_stand_64 : decode cX0_stand 64 = .ok (.return_, 1) := dk_177 (dk_at dksX0_stand_2 16 rfl rfl)
theorem dX0_stand_65 : decode cX0_stand 65 = .ok (.iconst 0, 1) := dk_3 (dk_at dksX0_stand_2 17 rfl rfl)
theorem dX0_stand_66 : decode cX0_stand 66 = .ok (.istore 6, 2) := dk_54 6 (dk_at dksX0_stand_2 18 rfl rfl)
theorem dX0_stand_68 : decode cX0_stand 68 = .ok (.iload 6, 2) := dk_21 6 (dk_at dksX0_stand_2 20 rfl rfl)
theorem dX0_stand_70 : decode cX0_stand 70 = .ok (.iload 5, 2) := dk_21 5 (dk_at dksX0_stand_2 22 rfl rfl)
theorem dX0_stand_72 : decode cX0_stand 72 = .ok (.if_icmp .ge 81, 3) := dk_162 0 81 (dk_at dksX0_stand_3 0 rfl rfl)
theorem dX0_stand_75 : decode cX0_stand 75 = .ok (.iload_n 1, 1) := dk_27 (dk_at dksX0_stand_3 3 rfl rfl)
theorem dX0_stand_76 : decode cX0_stand 76 = .ok (.iload 6, 2) := dk_21 6 (dk_at dksX0_stand_3 4 rfl rfl)
theorem dX0_stand_78 : decode cX0_stand 78 = .ok (.ishr, 1) := dk_122 (dk_at dksX0_stand_3 6 rfl rfl)
theorem dX0_stand_79 : decode cX0_stand 79 = .ok (.iconst 1, 1) := dk_4 (dk_at dksX0_stand_3 7 rfl rfl)
theorem dX0_stand_80 : decode cX0_stand 80 = .ok (.iand, 1) := dk_126 (dk_at dksX0_stand_3 8 rfl rfl)
theorem dX0_stand_81 : decode cX0_stand 81 = .ok (.iconst 1, 1) := dk_4 (dk_at dksX0_stand_3 9 rfl rfl)
theorem dX0_stand_82 : decode cX0_stand 82 = .ok (.if_icmp .ne 6, 3) := dk_160 0 6 (dk_at dksX0_stand_3 10 rfl rfl)
theorem dX0_stand_85 : decode cX0_stand 85 = .ok (.goto 62, 3) := dk_167 0 62 (dk_at dksX0_stand_3 13 rfl rfl)
theorem dX0_stand_88 : decode cX0_stand 88 = .ok (.aload_n 0, 1) := dk_42 (dk_at dksX0_stand_3 16 rfl rfl)
theorem dX0_stand_89 : decode cX0_stand 89 = .ok (.getfield 53, 3) := dk_180 0 53 (dk_at dksX0_stand_3 17 rfl rfl)
theorem dX0_stand_92 : decode cX0_stand 92 = .ok (.iload_n 2, 1) := dk_28 (dk_at dksX0_stand_3 20 rfl rfl)
theorem dX0_stand_93 : decode cX0_stand 93 = .ok (.iload 6, 2) := dk_21 6 (dk_at dksX0_stand_3 21 rfl rfl)
theorem dX0_stand_95 : decode cX0_stand 95 = .ok (.iastore, 1) := dk_79 (dk_at dksX0_stand_3 23 rfl rfl)
theorem dX0_stand_96 : decode cX0_stand 96 = .ok (.iload_n 3, 1) := dk_29 (dk_at dksX0_stand_4 0 rfl rfl)
theorem dX0_stand_97 : decode cX0_stand 97 = .ok (.aload_n 0, 1) := dk_42 (dk_at dksX0_stand_4 1 rfl rfl)
theorem dX0_stand_98 : decode cX0_stand 98 = .ok (.getfield 20, 3) := dk_180 0 20 (dk_at dksX0_stand_4 2 rfl rfl)
theorem dX0_stand_101 : decode cX0_stand 101 = .ok (.getfield 339, 3) := dk_180 1 83 (dk_at dksX0_stand_4 5 rfl rfl)
theorem dX0_stand_104 : decode cX0_stand 104 = .ok (.iload 6, 2) := dk_21 6 (dk_at dksX0_stand_4 8 rfl rfl)
theorem dX0_stand_106 : decode cX0_stand 106 = .ok (.invokevirtual 296, 3) := dk_182 1 40 (dk_at dksX0_stand_4 10 rfl rfl)
theorem dX0_stand_109 : decode cX0_stand 109 = .ok (.iadd, 1) := dk_96 (dk_at dksX0_stand_4 13 rfl rfl)
theorem dX0_stand_110 : decode cX0_stand 110 = .ok (.istore 7, 2) := dk_54 7 (dk_at dksX0_stand_4 14 rfl rfl)
theorem dX0_stand_112 : decode cX0_stand 112 = .ok (.aload_n 0, 1) := dk_42 (dk_at dksX0_stand_4 16 rfl rfl)
theorem dX0_stand_113 : decode cX0_stand 113 = .ok (.iload_n 1, 1) := dk_27 (dk_at dksX0_stand_4 17 rfl rfl)
theorem dX0_stand_114 : decode cX0_stand 114 = .ok (.iconst 1, 1) := dk_4 (dk_at dksX0_stand_4 18 rfl rfl)
theorem dX0_stand_115 : decode cX0_stand 115 = .ok (.iload 6, 2) := dk_21 6 (dk_at dksX0_stand_4 19 rfl rfl)
theorem dX0_stand_117 : decode cX0_stand 117 = .ok (.ishl, 1) := dk_120 (dk_at dksX0_stand_4 21 rfl rfl)
theorem dX0_stand_118 : decode cX0_stand 118 = .ok (.ior, 1) := dk_128 (dk_at dksX0_stand_4 22 rfl rfl)
theorem dX0_stand_119 : decode cX0_stand 119 = .ok (.iload_n 2, 1) := dk_28 (dk_at dksX0_stand_4 23 rfl rfl)
theorem dX0_stand_120 : decode cX0_stand 120 = .ok (.iconst 1, 1) := dk_4 (dk_at dksX0_stand_5 0 rfl rfl)
theorem dX0_stand_121 : decode cX0_stand 121 = .ok (.iadd, 1) := dk_96 (dk_at dksX0_stand_5 1 rfl rfl)
theorem dX0_stand_122 : decode cX0_stand 122 = .ok (.iload 7, 2) := dk_21 7 (dk_at dksX0_stand_5 2 rfl rfl)
theorem dX0_stand_124 : decode cX0_stand 124 = .ok (.iload 7, 2) := dk_21 7 (dk_at dksX0_stand_5 4 rfl rfl)
theorem dX0_stand_126 : decode cX0_stand 126 = .ok (.iload 4, 2) := dk_21 4 (dk_at dksX0_stand_5 6 rfl rfl)
theorem dX0_stand_128 : decode cX0_stand 128 = .ok (.invokestatic 71, 3) := dk_184 0 71 (dk_at dksX0_stand_5 8 rfl rfl)
theorem dX0_stand_131 : decode cX0_stand 131 = .ok (.aload_n 0, 1) := dk_42 (dk_at dksX0_stand_5 11 rfl rfl)
theorem dX0_stand_132 : decode cX0_stand 132 = .ok (.getfield 20, 3) := dk_180 0 20 (dk_at dksX0_stand_5 12 rfl rfl)
theorem dX0_stand_135 : decode cX0_stand 135 = .ok (.getfield 339, 3) := dk_180 1 83 (dk_at dksX0_stand_5 15 rfl rfl)
theorem dX0_stand_138 : decode cX0_stand 138 = .ok (.iload 6, 2) := dk_21 6 (dk_at dksX0_stand_5 18 rfl rfl)
theorem dX0_stand_140 : decode cX0_stand 140 = .ok (.invokevirtual 333, 3) := dk_182 1 77 (dk_at dksX0_stand_5 20 rfl rfl)
theorem dX0_stand_143 : decode cX0_stand 143 = .ok (.iadd, 1) := dk_96 (dk_at dksX0_stand_5 23 rfl rfl)
theorem dX0_stand_144 : decode cX0_stand 144 = .ok (.invokevirtual 345, 3) := dk_182 1 89 (dk_at dksX0_stand_6 0 rfl rfl)
theorem dX0_stand_147 : decode cX0_stand 147 = .ok (.iinc 6 1, 3) := dk_132 6 1 (dk_at dksX0_stand_6 3 rfl rfl)
theorem dX0_stand_150 : decode cX0_stand 150 = .ok (.goto (-82), 3) := dk_167 255 174 (dk_at dksX0_stand_6 6 rfl rfl)
theorem dX0_stand_153 : decode cX0_stand 153 = .ok (.return_, 1) := dk_177 (dk_at dksX0_stand_6 9 rfl rfl)
abbrev cX0_alone : ByteArray := prog_1_method_53_code
def yX0_alone : MethodName := ⟨RX0, "alone", "(I)I"⟩
def dkwX0_alone_3 : List UInt8 := [154, 0, 10, 29, 184, 1, 8, 167, 0, 4, 29, 172]
abbrev dktX0_alone_3 : List UInt8 := dkwX0_alone_3 ++ []
def dkwX0_alone_2 : List UInt8 := [164, 0, 15, 42, 21, 4, 182, 1, 93, 153, 0, 6, 21, 4, 62, 132, 4, 1, 167, 255, 214, 27]
abbrev dktX0_alone_2 : List UInt8 := dkwX0_alone_2 ++ dktX0_alone_3
def dkwX0_alone_1 : List UInt8 := [21, 4, 28, 163, 0, 42, 21, 4, 28, 2, 130, 126, 154, 0, 27, 21, 4, 184, 1, 8, 29, 184, 1, 8]
abbrev dktX0_alone_1 : List UInt8 := dkwX0_alone_1 ++ dktX0_alone_2
def dkwX0_alone_0 : List UInt8 := [27, 3, 4, 184, 0, 81, 154, 0, 5, 2, 172, 42, 180, 0, 20, 182, 1, 5, 61, 3, 62, 4, 54, 4]
abbrev dktX0_alone_0 : List UInt8 := dkwX0_alone_0 ++ dktX0_alone_1
theorem dksX0_alone_0 : cX0_alone.data.toList.drop 0 = dktX0_alone_0 := by decide +kernel
theorem dksX0_alone_1 : cX0_alone.data.toList.drop 24 = dktX0_alone_1 := dk_seg dksX0_alone_0 24 rfl rfl
theorem dksX0_alone_2 : cX0_alone.data.toList.drop 48 = dktX0_alone_2 := dk_seg dksX0_alone_1 24 rfl rfl
theorem dksX0_alone_3 : cX0_alone.data.toList.drop 70 = dktX0_alone_3 := dk_seg dksX0_alone_2 22 rfl rfl
theorem dX0_alone_0 : decode cX0_alone 0 = .ok (.iload_n 1, 1) := dk_27 (dk_at dksX0_alone_0 0 rfl rfl)
theorem dX0_alone_1 : decode cX0_alone 1 = .ok (.iconst 0, 1) := dk_3 (dk_at dksX0_alone_0 1 rfl rfl)
theorem dX0_alone_2 : decode cX0_alone 2 = .ok (.iconst 1, 1) := dk_4 (dk_at dksX0_alone_0 2 rfl rfl)
theorem dX0_alone_3 : decode cX0_alone 3 = .ok (.invokestatic 81, 3) := dk_184 0 81 (dk_at dksX0_alone_0 3 rfl rfl)
theorem dX0_alone_6 : decode cX0_alone 6 = .ok (.ifCond .ne 5, 3) := dk_154 0 5 (dk_at dksX0_alone_0 6 rfl rfl)
theorem dX0_alone_9 : decode cX0_alone 9 = .ok (.iconst (-1), 1) := dk_2 (dk_at dksX0_alone_0 9 rfl rfl)
theorem dX0_alone_10 : decode cX0_alone 10 = .ok (.ireturn, 1) := dk_172 (dk_at dksX0_alone_0 10 rfl rfl)
theorem dX0_alone_11 : decode cX0_alone 11 = .ok (.aload_n 0, 1) := dk_42 (dk_at dksX0_alone_0 11 rfl rfl)
theorem dX0_alone_12 : decode cX0_alone 12 = .ok (.getfield 20, 3) := dk_180 0 20 (dk_at dksX0_alone_0 12 rfl rfl)
theorem dX0_alone_15 : decode cX0_alone 15 = .ok (.invokevirtual 261, 3) := dk_182 1 5 (dk_at dksX0_alone_0 15 rfl rfl)
theorem dX0_alone_18 : decode cX0_alone 18 = .ok (.istore_n 2, 1) := dk_61 (dk_at dksX0_alone_0 18 rfl rfl)
theorem dX0_alone_19 : decode cX0_alone 19 = .ok (.iconst 0, 1) := dk_3 (dk_at dksX0_alone_0 19 rfl rfl)
theorem dX0_alone_20 : decode cX0_alone 20 = .ok (.istore_n 3, 1) := dk_62 (dk_at dksX0_alone_0 20 rfl rfl)
theorem dX0_alone_21 : decode cX0_alone 21 = .ok (.iconst 1, 1) := dk_4 (dk_at dksX0_alone_0 21 rfl rfl)
theorem dX0_alone_22 : decode cX0_alone 22 = .ok (.istore 4, 2) := dk_54 4 (dk_at dksX0_alone_0 22 rfl rfl)
theorem dX0_alone_24 : decode cX0_alone 24 = .ok (.iload 4, 2) := dk_21 4 (dk_at dksX0_alone_1 0 rfl rfl)
theorem dX0_alone_26 : decode cX0_alone 26 = .ok (.iload_n 2, 1) := dk_28 (dk_at dksX0_alone_1 2 rfl rfl)
theorem dX0_alone_27 : decode cX0_alone 27 = .ok (.if_icmp .gt 42, 3) := dk_163 0 42 (dk_at dksX0_alone_1 3 rfl rfl)
theorem dX0_alone_30 : decode cX0_alone 30 = .ok (.iload 4, 2) := dk_21 4 (dk_at dksX0_alone_1 6 rfl rfl)
theorem dX0_alone_32 : decode cX0_alone 32 = .ok (.iload_n 2, 1) := dk_28 (dk_at dksX0_alone_1 8 rfl rfl)
theorem dX0_alone_33 : decode cX0_alone 33 = .ok (.iconst (-1), 1) := dk_2 (dk_at dksX0_alone_1 9 rfl rfl)
theorem dX0_alone_34 : decode cX0_alone 34 = .ok (.ixor, 1) := dk_130 (dk_at dksX0_alone_1 10 rfl rfl)
theorem dX0_alone_35 : decode cX0_alone 35 = .ok (.iand, 1) := dk_126 (dk_at dksX0_alone_1 11 rfl rfl)
theorem dX0_alone_36 : decode cX0_alone 36 = .ok (.ifCond .ne 27, 3) := dk_154 0 27 (dk_at dksX0_alone_1 12 rfl rfl)
theorem dX0_alone_39 : decode cX0_alone 39 = .ok (.iload 4, 2) := dk_21 4 (dk_at dksX0_alone_1 15 rfl rfl)
theorem dX0_alone_41 : decode cX0_alone 41 = .ok (.invokestatic 264, 3) := dk_184 1 8 (dk_at dksX0_alone_1 17 rfl rfl)
theorem dX0_alone_44 : decode cX0_alone 44 = .ok (.iload_n 3, 1) := dk_29 (dk_at dksX0_alone_1 20 rfl rfl)
theorem dX0_alone_45 : decode cX0_alone 45 = .ok (.invokestatic 264, 3) := dk_184 1 8 (dk_at dksX0_alone_1 21 rfl rfl)
theorem dX0_alone_48 : decode cX0_alone 48 = .ok (.if_icmp .le 15, 3) := dk_164 0 15 (dk_at dksX0_alone_2 0 rfl rfl)
theorem dX0_alone_51 : decode cX0_alone 51 = .ok (.aload_n 0, 1) := dk_42 (dk_at dksX0_alone_2 3 rfl rfl)
theorem dX0_alone_52 : decode cX0_alone 52 = .ok (.iload 4, 2) := dk_21 4 (dk_at dksX0_alone_2 4 rfl rfl)
theorem dX0_alone_54 : decode cX0_alone 54 = .ok (.invokevirtual 349, 3) := dk_182 1 93 (dk_at dksX0_alone_2 6 rfl rfl)
theorem dX0_alone_57 : decode cX0_alone 57 = .ok (.ifCond .eq 6, 3) := dk_153 0 6 (dk_at dksX0_alone_2 9 rfl rfl)
theorem dX0_alone_60 : decode cX0_alone 60 = .ok (.iload 4, 2) := dk_21 4 (dk_at dksX0_alone_2 12 rfl rfl)
theorem dX0_alone_62 : decode cX0_alone 62 = .ok (.istore_n 3, 1) := dk_62 (dk_at dksX0_alone_2 14 rfl rfl)
theorem dX0_alone_63 : decode cX0_alone 63 = .ok (.iinc 4 1, 3) := dk_132 4 1 (dk_at dksX0_alone_2 15 rfl rfl)
theorem dX0_alone_66 : decode cX0_alone 66 = .ok (.goto (-42), 3) := dk_167 255 214 (dk_at dksX0_alone_2 18 rfl rfl)
theorem dX0_alone_69 : decode cX0_alone 69 = .ok (.iload_n 1, 1) := dk_27 (dk_at dksX0_alone_2 21 rfl rfl)
theorem dX0_alone_70 : decode cX0_alone 70 = .ok (.ifCond .ne 10, 3) := dk_154 0 10 (dk_at dksX0_alone_3 0 rfl rfl)
theorem dX0_alone_73 : decode cX0_alone 73 = .ok (.iload_n 3, 1) := dk_29 (dk_at dksX0_alone_3 3 rfl rfl)
theorem dX0_alone_74 : decode cX0_alone 74 = .ok (.invokestatic 264, 3) := dk_184 1 8 (dk_at dksX0_alone_3 4 rfl rfl)
theorem dX0_alone_77 : decode cX0_alone 77 = .ok (.goto 4, 3) := dk_167 0 4 (dk_at dksX0_alone_3 7 rfl rfl)
theorem dX0_alone_80 : decode cX0_alone 80 = .ok (.iload_n 3, 1) := dk_29 (dk_at dksX0_alone_3 10 rfl rfl)
theorem dX0_alone_81 : decode cX0_alone 81 = .ok (.ireturn, 1) := dk_172 (dk_at dksX0_alone_3 11 rfl rfl)
abbrev cX0_areAlone : ByteArray := prog_1_method_52_code
def yX0_areAlone : MethodName := ⟨RX0, "areAlone", "(I)Z"⟩
def dkwX0_areAlone_1 : List UInt8 := [180, 0, 20, 180, 0, 120, 28, 46, 27, 126, 153, 0, 5, 3, 172, 132, 2, 1, 167, 255, 217, 4, 172]
abbrev dktX0_areAlone_1 : List UInt8 := dkwX0_areAlone_1 ++ []
def dkwX0_areAlone_0 : List UInt8 := [3, 61, 28, 42, 180, 0, 20, 180, 0, 151, 162, 0, 34, 27, 28, 122, 4, 126, 4, 160, 0, 19, 42]
abbrev dktX0_areAlone_0 : List UInt8 := dkwX0_areAlone_0 ++ dktX0_areAlone_1
theorem dksX0_areAlone_0 : cX0_areAlone.data.toList.drop 0 = dktX0_areAlone_0 := by decide +kernel
theorem dksX0_areAlone_1 : cX0_areAlone.data.toList.drop 23 = dktX0_areAlone_1 := dk_seg dksX0_areAlone_0 23 rfl rfl
theorem dX0_areAlone_0 : decode cX0_areAlone 0 = .ok (.iconst 0, 1) := dk_3 (dk_at dksX0_areAlone_0 0 rfl rfl)
theorem dX0_areAlone_1 : decode cX0_areAlone 1 = .ok (.istore_n 2, 1) := dk_61 (dk_at dksX0_areAlone_0 1 rfl rfl)
theorem dX0_areAlone_2 : decode cX0_areAlone 2 = .ok (.iload_n 2, 1) := dk_28 (dk_at dksX0_areAlone_0 2 rfl rfl)
theorem dX0_areAlone_3 : decode cX0_areAlone 3 = .ok (.aload_n 0, 1) := dk_42 (dk_at dksX0_areAlone_0 3 rfl rfl)
theorem dX0_areAlone_4 : decode cX0_areAlone 4 = .ok (.getfield 20, 3) := dk_180 0 20 (dk_at dksX0_areAlone_0 4 rfl rfl)
theorem dX0_areAlone_7 : decode cX0_areAlone 7 = .ok (.getfield 151, 3) := dk_180 0 151 (dk_at dksX0_areAlone_0 7 rfl rfl)
theorem dX0_areAlone_10 : decode cX0_areAlone 10 = .ok (.if_icmp .ge 34, 3) := dk_162 0 34 (dk_at dksX0_areAlone_0 10 rfl rfl)
theorem dX0_areAlone_13 : decode cX0_areAlone 13 = .ok (.iload_n 1, 1) := dk_27 (dk_at dksX0_areAlone_0 13 rfl rfl)
theorem dX0_areAlone_14 : decode cX0_areAlone 14 = .ok (.iload_n 2, 1) := dk_28 (dk_at dksX0_areAlone_0 14 rfl rfl)
theorem dX0_areAlone_15 : decode cX0_areAlone 15 = .ok (.ishr, 1) := dk_122 (dk_at dksX0_areAlone_0 15 rfl rfl)
theorem dX0_areAlone_16 : decode cX0_areAlone 16 = .ok (.iconst 1, 1) := dk_4 (dk_at dksX0_areAlone_0 16 rfl rfl)
theorem dX0_areAlone_17 : decode cX0_areAlone 17 = .ok (.iand, 1) := dk_126 (dk_at dksX0_areAlone_0 17 rfl rfl)
theorem dX0_areAlone_18 : decode cX0_areAlone 18 = .ok (.iconst 1, 1) := dk_4 (dk_at dksX0_areAlone_0 18 rfl rfl)
theorem dX0_areAlone_19 : decode cX0_areAlone 19 = .ok (.if_icmp .ne 19, 3) := dk_160 0 19 (dk_at dksX0_areAlone_0 19 rfl rfl)
theorem dX0_areAlone_22 : decode cX0_areAlone 22 = .ok (.aload_n 0, 1) := dk_42 (dk_at dksX0_areAlone_0 22 rfl rfl)
theorem dX0_areAlone_23 : decode cX0_areAlone 23 = .ok (.getfield 20, 3) := dk_180 0 20 (dk_at dksX0_areAlone_1 0 rfl rfl)
theorem dX0_areAlone_26 : decode cX0_areAlone 26 = .ok (.getfield 120, 3) := dk_180 0 120 (dk_at dksX0_areAlone_1 3 rfl rfl)
theorem dX0_areAlone_29 : decode cX0_areAlone 29 = .ok (.iload_n 2, 1) := dk_28 (dk_at dksX0_areAlone_1 6 rfl rfl)
theorem dX0_areAlone_30 : decode cX0_areAlone 30 = .ok (.iaload, 1) := dk_46 (dk_at dksX0_areAlone_1 7 rfl rfl)
theorem dX0_areAlone_31 : decode cX0_areAlone 31 = .ok (.iload_n 1, 1) := dk_27 (dk_at dksX0_areAlone_1 8 rfl rfl)
theorem dX0_areAlone_32 : decode cX0_areAlone 32 = .ok (.iand, 1) := dk_126 (dk_at dksX0_areAlone_1 9 rfl rfl)
theorem dX0_areAlone_33 : decode cX0_areAlone 33 = .ok (.ifCond .eq 5, 3) := dk_153 0 5 (dk_at dksX0_areAlone_1 10 rfl rfl)
theorem dX0_areAlone_36 : decode cX0_areAlone 36 = .ok (.iconst 0, 1) := dk_3 (dk_at dksX0_areAlone_1 13 rfl rfl)
theorem dX0_areAlone_37 : decode cX0_areAlone 37 = .ok (.ireturn, 1) := dk_172 (dk_at dksX0_areAlone_1 14 rfl rfl)
theorem dX0_areAlone_38 : decode cX0_areAlone 38 = .ok (.iinc 2 1, 3) := dk_132 2 1 (dk_at dksX0_areAlone_1 15 rfl rfl)
theorem dX0_areAlone_41 : decode cX0_areAlone 41 = .ok (.goto (-39), 3) := dk_167 255 217 (dk_at dksX0_areAlone_1 18 rfl rfl)
theorem dX0_areAlone_44 : decode cX0_areAlone 44 = .ok (.iconst 1, 1) := dk_4 (dk_at dksX0_areAlone_1 21 rfl rfl)
theorem dX0_areAlone_45 : decode cX0_areAlone 45 = .ok (.ireturn, 1) := dk_172 (dk_at dksX0_areAlone_1 22 rfl rfl)
abbrev cX0_heir : ByteArray := prog_1_method_54_code
def yX0_heir : MethodName := ⟨RX0, "heir", "(II)I"⟩
def dkwX0_heir_2 : List UInt8 := [180, 0, 20, 180, 1, 96, 27, 28, 182, 1, 37, 167, 0, 4, 2, 172]
abbrev dktX0_heir_2 : List UInt8 := dkwX0_heir_2 ++ []
def dkwX0_heir_1 : List UInt8 := [184, 0, 81, 153, 0, 33, 28, 3, 16, 11, 184, 0, 81, 153, 0, 23, 27, 28, 159, 0, 18, 42]
abbrev dktX0_heir_1 : List UInt8 := dkwX0_heir_1 ++ dktX0_heir_2
def dkwX0_heir_0 : List UInt8 := [27, 2, 160, 0, 16, 42, 180, 0, 20, 180, 1, 96, 182, 1, 32, 167, 0, 44, 27, 3, 16, 11]
abbrev dktX0_heir_0 : List UInt8 := dkwX0_heir_0 ++ dktX0_heir_1
theorem dksX0_heir_0 : cX0_heir.data.toList.drop 0 = dktX0_heir_0 := by decide +kernel
theorem dksX0_heir_1 : cX0_heir.data.toList.drop 22 = dktX0_heir_1 := dk_seg dksX0_heir_0 22 rfl rfl
theorem dksX0_heir_2 : cX0_heir.data.toList.drop 44 = dktX0_heir_2 := dk_seg dksX0_heir_1 22 rfl rfl
theorem dX0_heir_0 : decode cX0_heir 0 = .ok (.iload_n 1, 1) := dk_27 (dk_at dksX0_heir_0 0 rfl rfl)
theorem dX0_heir_1 : decode cX0_heir 1 = .ok (.iconst (-1), 1) := dk_2 (dk_at dksX0_heir_0 1 rfl rfl)
theorem dX0_heir_2 : decode cX0_heir 2 = .ok (.if_icmp .ne 16, 3) := dk_160 0 16 (dk_at dksX0_heir_0 2 rfl rfl)
theorem dX0_heir_5 : decode cX0_heir 5 = .ok (.aload_n 0, 1) := dk_42 (dk_at dksX0_heir_0 5 rfl rfl)
theorem dX0_heir_6 : decode cX0_heir 6 = .ok (.getfield 20, 3) := dk_180 0 20 (dk_at dksX0_heir_0 6 rfl rfl)
theorem dX0_heir_9 : decode cX0_heir 9 = .ok (.getfield 352, 3) := dk_180 1 96 (dk_at dksX0_heir_0 9 rfl rfl)
theorem dX0_heir_12 : decode cX0_heir 12 = .ok (.invokevirtual 288, 3) := dk_182 1 32 (dk_at dksX0_heir_0 12 rfl rfl)
theorem dX0_heir_15 : decode cX0_heir 15 = .ok (.goto 44, 3) := dk_167 0 44 (dk_at dksX0_heir_0 15 rfl rfl)
theorem dX0_heir_18 : decode cX0_heir 18 = .ok (.iload_n 1, 1) := dk_27 (dk_at dksX0_heir_0 18 rfl rfl)
theorem dX0_heir_19 : decode cX0_heir 19 = .ok (.iconst 0, 1) := dk_3 (dk_at dksX0_heir_0 19 rfl rfl)
theorem dX0_heir_20 : decode cX0_heir 20 = .ok (.bipush 11, 2) := dk_16 11 (dk_at dksX0_heir_0 20 rfl rfl)
theorem dX0_heir_22 : decode cX0_heir 22 = .ok (.invokestatic 81, 3) := dk_184 0 81 (dk_at dksX0_heir_1 0 rfl rfl)
theorem dX0_heir_25 : decode cX0_heir 25 = .ok (.ifCond .eq 33, 3) := dk_153 0 33 (dk_at dksX0_heir_1 3 rfl rfl)
theorem dX0_heir_28 : decode cX0_heir 28 = .ok (.iload_n 2, 1) := dk_28 (dk_at dksX0_heir_1 6 rfl rfl)
theorem dX0_heir_29 : decode cX0_heir 29 = .ok (.iconst 0, 1) := dk_3 (dk_at dksX0_heir_1 7 rfl rfl)
theorem dX0_heir_30 : decode cX0_heir 30 = .ok (.bipush 11, 2) := dk_16 11 (dk_at dksX0_heir_1 8 rfl rfl)
theorem dX0_heir_32 : decode cX0_heir 32 = .ok (.invokestatic 81, 3) := dk_184 0 81 (dk_at dksX0_heir_1 10 rfl rfl)
theorem dX0_heir_35 : decode cX0_heir 35 = .ok (.ifCond .eq 23, 3) := dk_153 0 23 (dk_at dksX0_heir_1 13 rfl rfl)
theorem dX0_heir_38 : decode cX0_heir 38 = .ok (.iload_n 1, 1) := dk_27 (dk_at dksX0_heir_1 16 rfl rfl)
theorem dX0_heir_39 : decode cX0_heir 39 = .ok (.iload_n 2, 1) := dk_28 (dk_at dksX0_heir_1 17 rfl rfl)
theorem dX0_heir_40 : decode cX0_heir 40 = .ok (.if_icmp .eq 18, 3) := dk_159 0 18 (dk_at dksX0_heir_1 18 rfl rfl)
theorem dX0_heir_43 : decode cX0_heir 43 = .ok (.aload_n 0, 1) := dk_42 (dk_at dksX0_heir_1 21 rfl rfl)
theorem dX0_heir_44 : decode cX0_heir 44 = .ok (.getfield 20, 3) := dk_180 0 20 (dk_at dksX0_heir_2 0 rfl rfl)
theorem dX0_heir_47 : decode cX0_heir 47 = .ok (.getfield 352, 3) := dk_180 1 96 (dk_at dksX0_heir_2 3 rfl rfl)
theorem dX0_heir_50 : decode cX0_heir 50 = .ok (.iload_n 1, 1) := dk_27 (dk_at dksX0_heir_2 6 rfl rfl)
theorem dX0_heir_51 : decode cX0_heir 51 = .ok (.iload_n 2, 1) := dk_28 (dk_at dksX0_heir_2 7 rfl rfl)
theorem dX0_heir_52 : decode cX0_heir 52 = .ok (.invokevirtual 293, 3) := dk_182 1 37 (dk_at dksX0_heir_2 8 rfl rfl)
theorem dX0_heir_55 : decode cX0_heir 55 = .ok (.goto 4, 3) := dk_167 0 4 (dk_at dksX0_heir_2 11 rfl rfl)
theorem dX0_heir_58 : decode cX0_heir 58 = .ok (.iconst (-1), 1) := dk_2 (dk_at dksX0_heir_2 14 rfl rfl)
theorem dX0_heir_59 : decode cX0_heir 59 = .ok (.ireturn, 1) := dk_172 (dk_at dksX0_heir_2 15 rfl rfl)
abbrev cX0_line : ByteArray := prog_1_method_56_code
def yX0_line : MethodName := ⟨RX0, "line", "(II)I"⟩
def dkwX0_line_2 : List UInt8 := [167, 0, 4, 29, 172, 42, 29, 182, 1, 99, 62, 132, 4, 1, 167, 255, 220, 2, 172]
abbrev dktX0_line_2 : List UInt8 := dkwX0_line_2 ++ []
def dkwX0_line_1 : List UInt8 := [54, 4, 21, 4, 16, 12, 162, 0, 35, 42, 29, 182, 1, 99, 2, 160, 0, 14, 28, 154, 0, 8, 21, 4]
abbrev dktX0_line_1 : List UInt8 := dkwX0_line_1 ++ dktX0_line_2
def dkwX0_line_0 : List UInt8 := [27, 3, 16, 11, 184, 0, 81, 153, 0, 12, 28, 3, 4, 184, 0, 81, 154, 0, 5, 2, 172, 27, 62, 3]
abbrev dktX0_line_0 : List UInt8 := dkwX0_line_0 ++ dktX0_line_1
theorem dksX0_line_0 : cX0_line.data.toList.drop 0 = dktX0_line_0 := by decide +kernel
theorem dksX0_line_1 : cX0_line.data.toList.drop 24 = dktX0_line_1 := dk_seg dksX0_line_0 24 rfl rfl
theorem dksX0_line_2 : cX0_line.data.toList.drop 48 = dktX0_line_2 := dk_seg dksX0_line_1 24 rfl rfl
theorem dX0_line_0 : decode cX0_line 0 = .ok (.iload_n 1, 1) := dk_27 (dk_at dksX0_line_0 0 rfl rfl)
theorem dX0_line_1 : decode cX0_line 1 = .ok (.iconst 0, 1) := dk_3 (dk_at dksX0_line_0 1 rfl rfl)
theorem dX0_line_2 : decode cX0_line 2 = .ok (.bipush 11, 2) := dk_16 11 (dk_at dksX0_line_0 2 rfl rfl)
theorem dX0_line_4 : decode cX0_line 4 = .ok (.invokestatic 81, 3) := dk_184 0 81 (dk_at dksX0_line_0 4 rfl rfl)
theorem dX0_line_7 : decode cX0_line 7 = .ok (.ifCond .eq 12, 3) := dk_153 0 12 (dk_at dksX0_line_0 7 rfl rfl)
theorem dX0_line_10 : decode cX0_line 10 = .ok (.iload_n 2, 1) := dk_28 (dk_at dksX0_line_0 10 rfl rfl)
theorem dX0_line_11 : decode cX0_line 11 = .ok (.iconst 0, 1) := dk_3 (dk_at dksX0_line_0 11 rfl rfl)
theorem dX0_line_12 : decode cX0_line 12 = .ok (.iconst 1, 1) := dk_4 (dk_at dksX0_line_0 12 rfl rfl)
theorem dX0_line_13 : decode cX0_line 13 = .ok (.invokestatic 81, 3) := dk_184 0 81 (dk_at dksX0_line_0 13 rfl rfl)
theorem dX0_line_16 : decode cX0_line 16 = .ok (.ifCond .ne 5, 3) := dk_154 0 5 (dk_at dksX0_line_0 16 rfl rfl)
theorem dX0_line_19 : decode cX0_line 19 = .ok (.iconst (-1), 1) := dk_2 (dk_at dksX0_line_0 19 rfl rfl)
theorem dX0_line_20 : decode cX0_line 20 = .ok (.ireturn, 1) := dk_172 (dk_at dksX0_line_0 20 rfl rfl)
theorem dX0_line_21 : decode cX0_line 21 = .ok (.iload_n 1, 1) := dk_27 (dk_at dksX0_line_0 21 rfl rfl)
theorem dX0_line_22 : decode cX0_line 22 = .ok (.istore_n 3, 1) := dk_62 (dk_at dksX0_line_0 22 rfl rfl)
theorem dX0_line_23 : decode cX0_line 23 = .ok (.iconst 0, 1) := dk_3 (dk_at dksX0_line_0 23 rfl rfl)
theorem dX0_line_24 : decode cX0_line 24 = .ok (.istore 4, 2) := dk_54 4 (dk_at dksX0_line_1 0 rfl rfl)
theorem dX0_line_26 : decode cX0_line 26 = .ok (.iload 4, 2) := dk_21 4 (dk_at dksX0_line_1 2 rfl rfl)
theorem dX0_line_28 : decode cX0_line 28 = .ok (.bipush 12, 2) := dk_16 12 (dk_at dksX0_line_1 4 rfl rfl)
theorem dX0_line_30 : decode cX0_line 30 = .ok (.if_icmp .ge 35, 3) := dk_162 0 35 (dk_at dksX0_line_1 6 rfl rfl)
theorem dX0_line_33 : decode cX0_line 33 = .ok (.aload_n 0, 1) := dk_42 (dk_at dksX0_line_1 9 rfl rfl)
theorem dX0_line_34 : decode cX0_line 34 = .ok (.iload_n 3, 1) := dk_29 (dk_at dksX0_line_1 10 rfl rfl)
theorem dX0_line_35 : decode cX0_line 35 = .ok (.invokevirtual 355, 3) := dk_182 1 99 (dk_at dksX0_line_1 11 rfl rfl)
theorem dX0_line_38 : decode cX0_line 38 = .ok (.iconst (-1), 1) := dk_2 (dk_at dksX0_line_1 14 rfl rfl)
theorem dX0_line_39 : decode cX0_line 39 = .ok (.if_icmp .ne 14, 3) := dk_160 0 14 (dk_at dksX0_line_1 15 rfl rfl)
theorem dX0_line_42 : decode cX0_line 42 = .ok (.iload_n 2, 1) := dk_28 (dk_at dksX0_line_1 18 rfl rfl)
theorem dX0_line_43 : decode cX0_line 43 = .ok (.ifCond .ne 8, 3) := dk_154 0 8 (dk_at dksX0_line_1 19 rfl rfl)
theorem dX0_line_46 : decode cX0_line 46 = .ok (.iload 4, 2) := dk_21 4 (dk_at dksX0_line_1 22 rfl rfl)
theorem dX0_line_48 : decode cX0_line 48 = .ok (.goto 4, 3) := dk_167 0 4 (dk_at dksX0_line_2 0 rfl rfl)
theorem dX0_line_51 : decode cX0_line 51 = .ok (.iload_n 3, 1) := dk_29 (dk_at dksX0_line_2 3 rfl rfl)
theorem dX0_line_52 : decode cX0_line 52 = .ok (.ireturn, 1) := dk_172 (dk_at dksX0_line_2 4 rfl rfl)
theorem dX0_line_53 : decode cX0_line 53 = .ok (.aload_n 0, 1) := dk_42 (dk_at dksX0_line_2 5 rfl rfl)
theorem dX0_line_54 : decode cX0_line 54 = .ok (.iload_n 3, 1) := dk_29 (dk_at dksX0_line_2 6 rfl rfl)
theorem dX0_line_55 : decode cX0_line 55 = .ok (.invokevirtual 355, 3) := dk_182 1 99 (dk_at dksX0_line_2 7 rfl rfl)
theorem dX0_line_58 : decode cX0_line 58 = .ok (.istore_n 3, 1) := dk_62 (dk_at dksX0_line_2 10 rfl rfl)
theorem dX0_line_59 : decode cX0_line 59 = .ok (.iinc 4 1, 3) := dk_132 4 1 (dk_at dksX0_line_2 11 rfl rfl)
theorem dX0_line_62 : decode cX0_line 62 = .ok (.goto (-36), 3) := dk_167 255 220 (dk_at dksX0_line_2 14 rfl rfl)
theorem dX0_line_65 : decode cX0_line 65 = .ok (.iconst (-1), 1) := dk_2 (dk_at dksX0_line_2 17 rfl rfl)
theorem dX0_line_66 : decode cX0_line 66 = .ok (.ireturn, 1) := dk_172 (dk_at dksX0_line_2 18 rfl rfl)
abbrev cX0_ahead : ByteArray := prog_1_method_55_code
def yX0_ahead : MethodName := ⟨RX0, "ahead", "(I)I"⟩
def dkwX0_ahead_2 : List UInt8 := [167, 255, 212, 2, 172]
abbrev dktX0_ahead_2 : List UInt8 := dkwX0_ahead_2 ++ []
def dkwX0_ahead_1 : List UInt8 := [182, 1, 40, 27, 160, 0, 15, 42, 180, 0, 20, 180, 1, 96, 28, 182, 1, 77, 172, 132, 2, 1]
abbrev dktX0_ahead_1 : List UInt8 := dkwX0_ahead_1 ++ dktX0_ahead_2
def dkwX0_ahead_0 : List UInt8 := [3, 61, 28, 42, 180, 0, 20, 180, 1, 96, 180, 1, 43, 162, 0, 36, 42, 180, 0, 20, 180, 1, 96, 28]
abbrev dktX0_ahead_0 : List UInt8 := dkwX0_ahead_0 ++ dktX0_ahead_1
theorem dksX0_ahead_0 : cX0_ahead.data.toList.drop 0 = dktX0_ahead_0 := by decide +kernel
theorem dksX0_ahead_1 : cX0_ahead.data.toList.drop 24 = dktX0_ahead_1 := dk_seg dksX0_ahead_0 24 rfl rfl
theorem dksX0_ahead_2 : cX0_ahead.data.toList.drop 46 = dktX0_ahead_2 := dk_seg dksX0_ahead_1 22 rfl rfl
theorem dX0_ahead_0 : decode cX0_ahead 0 = .ok (.iconst 0, 1) := dk_3 (dk_at dksX0_ahead_0 0 rfl rfl)
theorem dX0_ahead_1 : decode cX0_ahead 1 = .ok (.istore_n 2, 1) := dk_61 (dk_at dksX0_ahead_0 1 rfl rfl)
theorem dX0_ahead_2 : decode cX0_ahead 2 = .ok (.iload_n 2, 1) := dk_28 (dk_at dksX0_ahead_0 2 rfl rfl)
theorem dX0_ahead_3 : decode cX0_ahead 3 = .ok (.aload_n 0, 1) := dk_42 (dk_at dksX0_ahead_0 3 rfl rfl)
theorem dX0_ahead_4 : decode cX0_ahead 4 = .ok (.getfield 20, 3) := dk_180 0 20 (dk_at dksX0_ahead_0 4 rfl rfl)
theorem dX0_ahead_7 : decode cX0_ahead 7 = .ok (.getfield 352, 3) := dk_180 1 96 (dk_at dksX0_ahead_0 7 rfl rfl)
theorem dX0_ahead_10 : decode cX0_ahead 10 = .ok (.getfield 299, 3) := dk_180 1 43 (dk_at dksX0_ahead_0 10 rfl rfl)
theorem dX0_ahead_13 : decode cX0_ahead 13 = .ok (.if_icmp .ge 36, 3) := dk_162 0 36 (dk_at dksX0_ahead_0 13 rfl rfl)
theorem dX0_ahead_16 : decode cX0_ahead 16 = .ok (.aload_n 0, 1) := dk_42 (dk_at dksX0_ahead_0 16 rfl rfl)
theorem dX0_ahead_17 : decode cX0_ahead 17 = .ok (.getfield 20, 3) := dk_180 0 20 (dk_at dksX0_ahead_0 17 rfl rfl)
theorem dX0_ahead_20 : decode cX0_ahead 20 = .ok (.getfield 352, 3) := dk_180 1 96 (dk_at dksX0_ahead_0 20 rfl rfl)
theorem dX0_ahead_23 : decode cX0_ahead 23 = .ok (.iload_n 2, 1) := dk_28 (dk_at dksX0_ahead_0 23 rfl rfl)
theorem dX0_ahead_24 : decode cX0_ahead 24 = .ok (.invokevirtual 296, 3) := dk_182 1 40 (dk_at dksX0_ahead_1 0 rfl rfl)
theorem dX0_ahead_27 : decode cX0_ahead 27 = .ok (.iload_n 1, 1) := dk_27 (dk_at dksX0_ahead_1 3 rfl rfl)
theorem dX0_ahead_28 : decode cX0_ahead 28 = .ok (.if_icmp .ne 15, 3) := dk_160 0 15 (dk_at dksX0_ahead_1 4 rfl rfl)
theorem dX0_ahead_31 : decode cX0_ahead 31 = .ok (.aload_n 0, 1) := dk_42 (dk_at dksX0_ahead_1 7 rfl rfl)
theorem dX0_ahead_32 : decode cX0_ahead 32 = .ok (.getfield 20, 3) := dk_180 0 20 (dk_at dksX0_ahead_1 8 rfl rfl)
theorem dX0_ahead_35 : decode cX0_ahead 35 = .ok (.getfield 352, 3) := dk_180 1 96 (dk_at dksX0_ahead_1 11 rfl rfl)
theorem dX0_ahead_38 : decode cX0_ahead 38 = .ok (.iload_n 2, 1) := dk_28 (dk_at dksX0_ahead_1 14 rfl rfl)
theorem dX0_ahead_39 : decode cX0_ahead 39 = .ok (.invokevirtual 333, 3) := dk_182 1 77 (dk_at dksX0_ahead_1 15 rfl rfl)
theorem dX0_ahead_42 : decode cX0_ahead 42 = .ok (.ireturn, 1) := dk_172 (dk_at dksX0_ahead_1 18 rfl rfl)
theorem dX0_ahead_43 : decode cX0_ahead 43 = .ok (.iinc 2 1, 3) := dk_132 2 1 (dk_at dksX0_ahead_1 19 rfl rfl)
theorem dX0_ahead_46 : decode cX0_ahead 46 = .ok (.goto (-44), 3) := dk_167 255 212 (dk_at dksX0_ahead_2 0 rfl rfl)
theorem dX0_ahead_49 : decode cX0_ahead 49 = .ok (.iconst (-1), 1) := dk_2 (dk_at dksX0_ahead_2 3 rfl rfl)
theorem dX0_ahead_50 : decode cX0_ahead 50 = .ok (.ireturn, 1) := dk_172 (dk_at dksX0_ahead_2 4 rfl rfl)
abbrev cX0_window : ByteArray := prog_1_method_57_code
def yX0_window : MethodName := ⟨RX0, "window", "(I)I"⟩
def dkwX0_window_6 : List UInt8 := [180, 0, 59, 27, 50, 29, 46, 96, 61, 132, 3, 1, 167, 255, 237, 28, 172]
abbrev dktX0_window_6 : List UInt8 := dkwX0_window_6 ++ []
def dkwX0_window_5 : List UInt8 := [167, 255, 196, 132, 4, 1, 167, 255, 158, 132, 3, 1, 167, 255, 144, 3, 62, 29, 7, 162, 0, 20, 28, 42]
abbrev dktX0_window_5 : List UInt8 := dkwX0_window_5 ++ dktX0_window_6
def dkwX0_window_4 : List UInt8 := [160, 0, 7, 3, 167, 0, 15, 42, 180, 0, 59, 29, 21, 4, 100, 50, 21, 5, 46, 96, 79, 132, 5, 1]
abbrev dktX0_window_4 : List UInt8 := dkwX0_window_4 ++ dktX0_window_5
def dkwX0_window_3 : List UInt8 := [163, 0, 49, 42, 180, 0, 59, 29, 50, 21, 4, 92, 46, 21, 4, 6, 160, 0, 13, 21, 5, 6]
abbrev dktX0_window_3 : List UInt8 := dkwX0_window_3 ++ dktX0_window_4
def dkwX0_window_2 : List UInt8 := [167, 0, 4, 3, 79, 3, 54, 5, 21, 5, 7, 162, 0, 60, 21, 4, 158, 0, 55, 21, 4, 29]
abbrev dktX0_window_2 : List UInt8 := dkwX0_window_2 ++ dktX0_window_3
def dkwX0_window_1 : List UInt8 := [21, 4, 7, 162, 0, 98, 42, 180, 0, 59, 29, 50, 21, 4, 29, 154, 0, 12, 21, 4, 154, 0, 7, 4]
abbrev dktX0_window_1 : List UInt8 := dkwX0_window_1 ++ dktX0_window_2
def dkwX0_window_0 : List UInt8 := [27, 4, 16, 20, 184, 0, 81, 154, 0, 5, 2, 172, 3, 61, 3, 62, 29, 27, 163, 0, 113, 3, 54, 4]
abbrev dktX0_window_0 : List UInt8 := dkwX0_window_0 ++ dktX0_window_1
theorem dksX0_window_0 : cX0_window.data.toList.drop 0 = dktX0_window_0 := by decide +kernel
theorem dksX0_window_1 : cX0_window.data.toList.drop 24 = dktX0_window_1 := dk_seg dksX0_window_0 24 rfl rfl
theorem dksX0_window_2 : cX0_window.data.toList.drop 48 = dktX0_window_2 := dk_seg dksX0_window_1 24 rfl rfl
theorem dksX0_window_3 : cX0_window.data.toList.drop 70 = dktX0_window_3 := dk_seg dksX0_window_2 22 rfl rfl
theorem dksX0_window_4 : cX0_window.data.toList.drop 92 = dktX0_window_4 := dk_seg dksX0_window_3 22 rfl rfl
theorem dksX0_window_5 : cX0_window.data.toList.drop 116 = dktX0_window_5 := dk_seg dksX0_window_4 24 rfl rfl
theorem dksX0_window_6 : cX0_window.data.toList.drop 140 = dktX0_window_6 := dk_seg dksX0_window_5 24 rfl rfl
theorem dX0_window_0 : decode cX0_window 0 = .ok (.iload_n 1, 1) := dk_27 (dk_at dksX0_window_0 0 rfl rfl)
theorem dX0_window_1 : decode cX0_window 1 = .ok (.iconst 1, 1) := dk_4 (dk_at dksX0_window_0 1 rfl rfl)
theorem dX0_window_2 : decode cX0_window 2 = .ok (.bipush 20, 2) := dk_16 20 (dk_at dksX0_window_0 2 rfl rfl)
theorem dX0_window_4 : decode cX0_window 4 = .ok (.invokestatic 81, 3) := dk_184 0 81 (dk_at dksX0_window_0 4 rfl rfl)
theorem dX0_window_7 : decode cX0_window 7 = .ok (.ifCond .ne 5, 3) := dk_154 0 5 (dk_at dksX0_window_0 7 rfl rfl)
theorem dX0_window_10 : decode cX0_window 10 = .ok (.iconst (-1), 1) := dk_2 (dk_at dksX0_window_0 10 rfl rfl)
theorem dX0_window_11 : decode cX0_window 11 = .ok (.ireturn, 1) := dk_172 (dk_at dksX0_window_0 11 rfl rfl)
theorem dX0_window_12 : decode cX0_window 12 = .ok (.iconst 0, 1) := dk_3 (dk_at dksX0_window_0 12 rfl rfl)
theorem dX0_window_13 : decode cX0_window 13 = .ok (.istore_n 2, 1) := dk_61 (dk_at dksX0_window_0 13 rfl rfl)
theorem dX0_window_14 : decode cX0_window 14 = .ok (.iconst 0, 1) := dk_3 (dk_at dksX0_window_0 14 rfl rfl)
theorem dX0_window_15 : decode cX0_window 15 = .ok (.istore_n 3, 1) := dk_62 (dk_at dksX0_window_0 15 rfl rfl)
theorem dX0_window_16 : decode cX0_window 16 = .ok (.iload_n 3, 1) := dk_29 (dk_at dksX0_window_0 16 rfl rfl)
theorem dX0_window_17 : decode cX0_window 17 = .ok (.iload_n 1, 1) := dk_27 (dk_at dksX0_window_0 17 rfl rfl)
theorem dX0_window_18 : decode cX0_window 18 = .ok (.if_icmp .gt 113, 3) := dk_163 0 113 (dk_at dksX0_window_0 18 rfl rfl)
theorem dX0_window_21 : decode cX0_window 21 = .ok (.iconst 0, 1) := dk_3 (dk_at dksX0_window_0 21 rfl rfl)
theorem dX0_window_22 : decode cX0_window 22 = .ok (.istore 4, 2) := dk_54 4 (dk_at dksX0_window_0 22 rfl rfl)
theorem dX0_window_24 : decode cX0_window 24 = .ok (.iload 4, 2) := dk_21 4 (dk_at dksX0_window_1 0 rfl rfl)
theorem dX0_window_26 : decode cX0_window 26 = .ok (.iconst 4, 1) := dk_7 (dk_at dksX0_window_1 2 rfl rfl)
theorem dX0_window_27 : decode cX0_window 27 = .ok (.if_icmp .ge 98, 3) := dk_162 0 98 (dk_at dksX0_window_1 3 rfl rfl)
theorem dX0_window_30 : decode cX0_window 30 = .ok (.aload_n 0, 1) := dk_42 (dk_at dksX0_window_1 6 rfl rfl)
theorem dX0_window_31 : decode cX0_window 31 = .ok (.getfield 59, 3) := dk_180 0 59 (dk_at dksX0_window_1 7 rfl rfl)
theorem dX0_window_34 : decode cX0_window 34 = .ok (.iload_n 3, 1) := dk_29 (dk_at dksX0_window_1 10 rfl rfl)
theorem dX0_window_35 : decode cX0_window 35 = .ok (.aaload, 1) := dk_50 (dk_at dksX0_window_1 11 rfl rfl)
theorem dX0_window_36 : decode cX0_window 36 = .ok (.iload 4, 2) := dk_21 4 (dk_at dksX0_window_1 12 rfl rfl)
theorem dX0_window_38 : decode cX0_window 38 = .ok (.iload_n 3, 1) := dk_29 (dk_at dksX0_window_1 14 rfl rfl)
theorem dX0_window_39 : decode cX0_window 39 = .ok (.ifCond .ne 12, 3) := dk_154 0 12 (dk_at dksX0_window_1 15 rfl rfl)
theorem dX0_window_42 : decode cX0_window 42 = .ok (.iload 4, 2) := dk_21 4 (dk_at dksX0_window_1 18 rfl rfl)
theorem dX0_window_44 : decode cX0_window 44 = .ok (.ifCond .ne 7, 3) := dk_154 0 7 (dk_at dksX0_window_1 20 rfl rfl)
theorem dX0_window_47 : decode cX0_window 47 = .ok (.iconst 1, 1) := dk_4 (dk_at dksX0_window_1 23 rfl rfl)
theorem dX0_window_48 : decode cX0_window 48 = .ok (.goto 4, 3) := dk_167 0 4 (dk_at dksX0_window_2 0 rfl rfl)
theorem dX0_window_51 : decode cX0_window 51 = .ok (.iconst 0, 1) := dk_3 (dk_at dksX0_window_2 3 rfl rfl)
theorem dX0_window_52 : decode cX0_window 52 = .ok (.iastore, 1) := dk_79 (dk_at dksX0_window_2 4 rfl rfl)
theorem dX0_window_53 : decode cX0_window 53 = .ok (.iconst 0, 1) := dk_3 (dk_at dksX0_window_2 5 rfl rfl)
theorem dX0_window_54 : decode cX0_window 54 = .ok (.istore 5, 2) := dk_54 5 (dk_at dksX0_window_2 6 rfl rfl)
theorem dX0_window_56 : decode cX0_window 56 = .ok (.iload 5, 2) := dk_21 5 (dk_at dksX0_window_2 8 rfl rfl)
theorem dX0_window_58 : decode cX0_window 58 = .ok (.iconst 4, 1) := dk_7 (dk_at dksX0_window_2 10 rfl rfl)
theorem dX0_window_59 : decode cX0_window 59 = .ok (.if_icmp .ge 60, 3) := dk_162 0 60 (dk_at dksX0_window_2 11 rfl rfl)
theorem dX0_window_62 : decode cX0_window 62 = .ok (.iload 4, 2) := dk_21 4 (dk_at dksX0_window_2 14 rfl rfl)
theorem dX0_window_64 : decode cX0_window 64 = .ok (.ifCond .le 55, 3) := dk_158 0 55 (dk_at dksX0_window_2 16 rfl rfl)
theorem dX0_window_67 : decode cX0_window 67 = .ok (.iload 4, 2) := dk_21 4 (dk_at dksX0_window_2 19 rfl rfl)
theorem dX0_window_69 : decode cX0_window 69 = .ok (.iload_n 3, 1) := dk_29 (dk_at dksX0_window_2 21 rfl rfl)
theorem dX0_window_70 : decode cX0_window 70 = .ok (.if_icmp .gt 49, 3) := dk_163 0 49 (dk_at dksX0_window_3 0 rfl rfl)
theorem dX0_window_73 : decode cX0_window 73 = .ok (.aload_n 0, 1) := dk_42 (dk_at dksX0_window_3 3 rfl rfl)
theorem dX0_window_74 : decode cX0_window 74 = .ok (.getfield 59, 3) := dk_180 0 59 (dk_at dksX0_window_3 4 rfl rfl)
theorem dX0_window_77 : decode cX0_window 77 = .ok (.iload_n 3, 1) := dk_29 (dk_at dksX0_window_3 7 rfl rfl)
theorem dX0_window_78 : decode cX0_window 78 = .ok (.aaload, 1) := dk_50 (dk_at dksX0_window_3 8 rfl rfl)
theorem dX0_window_79 : decode cX0_window 79 = .ok (.iload 4, 2) := dk_21 4 (dk_at dksX0_window_3 9 rfl rfl)
theorem dX0_window_81 : decode cX0_window 81 = .ok (.dup2, 1) := dk_92 (dk_at dksX0_window_3 11 rfl rfl)
theorem dX0_window_82 : decode cX0_window 82 = .ok (.iaload, 1) := dk_46 (dk_at dksX0_window_3 12 rfl rfl)
theorem dX0_window_83 : decode cX0_window 83 = .ok (.iload 4, 2) := dk_21 4 (dk_at dksX0_window_3 13 rfl rfl)
theorem dX0_window_85 : decode cX0_window 85 = .ok (.iconst 3, 1) := dk_6 (dk_at dksX0_window_3 15 rfl rfl)
theorem dX0_window_86 : decode cX0_window 86 = .ok (.if_icmp .ne 13, 3) := dk_160 0 13 (dk_at dksX0_window_3 16 rfl rfl)
theorem dX0_window_89 : decode cX0_window 89 = .ok (.iload 5, 2) := dk_21 5 (dk_at dksX0_window_3 19 rfl rfl)
theorem dX0_window_91 : decode cX0_window 91 = .ok (.iconst 3, 1) := dk_6 (dk_at dksX0_window_3 21 rfl rfl)
theorem dX0_window_92 : decode cX0_window 92 = .ok (.if_icmp .ne 7, 3) := dk_160 0 7 (dk_at dksX0_window_4 0 rfl rfl)
theorem dX0_window_95 : decode cX0_window 95 = .ok (.iconst 0, 1) := dk_3 (dk_at dksX0_window_4 3 rfl rfl)
theorem dX0_window_96 : decode cX0_window 96 = .ok (.goto 15, 3) := dk_167 0 15 (dk_at dksX0_window_4 4 rfl rfl)
theorem dX0_window_99 : decode cX0_window 99 = .ok (.aload_n 0, 1) := dk_42 (dk_at dksX0_window_4 7 rfl rfl)
theorem dX0_window_100 : decode cX0_window 100 = .ok (.getfield 59, 3) := dk_180 0 59 (dk_at dksX0_window_4 8 rfl rfl)
theorem dX0_window_103 : decode cX0_window 103 = .ok (.iload_n 3, 1) := dk_29 (dk_at dksX0_window_4 11 rfl rfl)
theorem dX0_window_104 : decode cX0_window 104 = .ok (.iload 4, 2) := dk_21 4 (dk_at dksX0_window_4 12 rfl rfl)
theorem dX0_window_106 : decode cX0_window 106 = .ok (.isub, 1) := dk_100 (dk_at dksX0_window_4 14 rfl rfl)
theorem dX0_window_107 : decode cX0_window 107 = .ok (.aaload, 1) := dk_50 (dk_at dksX0_window_4 15 rfl rfl)
theorem dX0_window_108 : decode cX0_window 108 = .ok (.iload 5, 2) := dk_21 5 (dk_at dksX0_window_4 16 rfl rfl)
theorem dX0_window_110 : decode cX0_window 110 = .ok (.iaload, 1) := dk_46 (dk_at dksX0_window_4 18 rfl rfl)
theorem dX0_window_111 : decode cX0_window 111 = .ok (.iadd, 1) := dk_96 (dk_at dksX0_window_4 19 rfl rfl)
theorem dX0_window_112 : decode cX0_window 112 = .ok (.iastore, 1) := dk_79 (dk_at dksX0_window_4 20 rfl rfl)
theorem dX0_window_113 : decode cX0_window 113 = .ok (.iinc 5 1, 3) := dk_132 5 1 (dk_at dksX0_window_4 21 rfl rfl)
theorem dX0_window_116 : decode cX0_window 116 = .ok (.goto (-60), 3) := dk_167 255 196 (dk_at dksX0_window_5 0 rfl rfl)
theorem dX0_window_119 : decode cX0_window 119 = .ok (.iinc 4 1, 3) := dk_132 4 1 (dk_at dksX0_window_5 3 rfl rfl)
theorem dX0_window_122 : decode cX0_window 122 = .ok (.goto (-98), 3) := dk_167 255 158 (dk_at dksX0_window_5 6 rfl rfl)
theorem dX0_window_125 : decode cX0_window 125 = .ok (.iinc 3 1, 3) := dk_132 3 1 (dk_at dksX0_window_5 9 rfl rfl)
theorem dX0_window_128 : decode cX0_window 128 = .ok (.goto (-112), 3) := dk_167 255 144 (dk_at dksX0_window_5 12 rfl rfl)
theorem dX0_window_131 : decode cX0_window 131 = .ok (.iconst 0, 1) := dk_3 (dk_at dksX0_window_5 15 rfl rfl)
theorem dX0_window_132 : decode cX0_window 132 = .ok (.istore_n 3, 1) := dk_62 (dk_at dksX0_window_5 16 rfl rfl)
theorem dX0_window_133 : decode cX0_window 133 = .ok (.iload_n 3, 1) := dk_29 (dk_at dksX0_window_5 17 rfl rfl)
theorem dX0_window_134 : decode cX0_window 134 = .ok (.iconst 4, 1) := dk_7 (dk_at dksX0_window_5 18 rfl rfl)
theorem dX0_window_135 : decode cX0_window 135 = .ok (.if_icmp .ge 20, 3) := dk_162 0 20 (dk_at dksX0_window_5 19 rfl rfl)
theorem dX0_window_138 : decode cX0_window 138 = .ok (.iload_n 2, 1) := dk_28 (dk_at dksX0_window_5 22 rfl rfl)
theorem dX0_window_139 : decode cX0_window 139 = .ok (.aload_n 0, 1) := dk_42 (dk_at dksX0_window_5 23 rfl rfl)
theorem dX0_window_140 : decode cX0_window 140 = .ok (.getfield 59, 3) := dk_180 0 59 (dk_at dksX0_window_6 0 rfl rfl)
theorem dX0_window_143 : decode cX0_window 143 = .ok (.iload_n 1, 1) := dk_27 (dk_at dksX0_window_6 3 rfl rfl)
theorem dX0_window_144 : decode cX0_window 144 = .ok (.aaload, 1) := dk_50 (dk_at dksX0_window_6 4 rfl rfl)
theorem dX0_window_145 : decode cX0_window 145 = .ok (.iload_n 3, 1) := dk_29 (dk_at dksX0_window_6 5 rfl rfl)
theorem dX0_window_146 : decode cX0_window 146 = .ok (.iaload, 1) := dk_46 (dk_at dksX0_window_6 6 rfl rfl)
theorem dX0_window_147 : decode cX0_window 147 = .ok (.iadd, 1) := dk_96 (dk_at dksX0_window_6 7 rfl rfl)
theorem dX0_window_148 : decode cX0_window 148 = .ok (.istore_n 2, 1) := dk_61 (dk_at dksX0_window_6 8 rfl rfl)
theorem dX0_window_149 : decode cX0_window 149 = .ok (.iinc 3 1, 3) := dk_132 3 1 (dk_at dksX0_window_6 9 rfl rfl)
theorem dX0_window_152 : decode cX0_window 152 = .ok (.goto (-19), 3) := dk_167 255 237 (dk_at dksX0_window_6 12 rfl rfl)
theorem dX0_window_155 : decode cX0_window 155 = .ok (.iload_n 2, 1) := dk_28 (dk_at dksX0_window_6 15 rfl rfl)
theorem dX0_window_156 : decode cX0_window 156 = .ok (.ireturn, 1) := dk_172 (dk_at dksX0_window_6 16 rfl rfl)
abbrev cX0_member : ByteArray := prog_1_method_58_code
def yX0_member : MethodName := ⟨RX0, "member", "(II)I"⟩
def dkwX0_member_2 : List UInt8 := [28, 182, 1, 37, 167, 0, 4, 2, 172]
abbrev dktX0_member_2 : List UInt8 := dkwX0_member_2 ++ []
def dkwX0_member_1 : List UInt8 := [184, 0, 81, 153, 0, 28, 28, 4, 16, 9, 184, 0, 81, 153, 0, 18, 42, 180, 0, 20, 180, 1, 102, 27]
abbrev dktX0_member_1 : List UInt8 := dkwX0_member_1 ++ dktX0_member_2
def dkwX0_member_0 : List UInt8 := [27, 2, 160, 0, 16, 42, 180, 0, 20, 180, 1, 102, 182, 1, 32, 167, 0, 40, 27, 3, 17, 15, 255]
abbrev dktX0_member_0 : List UInt8 := dkwX0_member_0 ++ dktX0_member_1
theorem dksX0_member_0 : cX0_member.data.toList.drop 0 = dktX0_member_0 := by decide +kernel
theorem dksX0_member_1 : cX0_member.data.toList.drop 23 = dktX0_member_1 := dk_seg dksX0_member_0 23 rfl rfl
theorem dksX0_member_2 : cX0_member.data.toList.drop 47 = dktX0_member_2 := dk_seg dksX0_member_1 24 rfl rfl
theorem dX0_member_0 : decode cX0_member 0 = .ok (.iload_n 1, 1) := dk_27 (dk_at dksX0_member_0 0 rfl rfl)
theorem dX0_member_1 : decode cX0_member 1 = .ok (.iconst (-1), 1) := dk_2 (dk_at dksX0_member_0 1 rfl rfl)
theorem dX0_member_2 : decode cX0_member 2 = .ok (.if_icmp .ne 16, 3) := dk_160 0 16 (dk_at dksX0_member_0 2 rfl rfl)
theorem dX0_member_5 : decode cX0_member 5 = .ok (.aload_n 0, 1) := dk_42 (dk_at dksX0_member_0 5 rfl rfl)
theorem dX0_member_6 : decode cX0_member 6 = .ok (.getfield 20, 3) := dk_180 0 20 (dk_at dksX0_member_0 6 rfl rfl)
theorem dX0_member_9 : decode cX0_member 9 = .ok (.getfield 358, 3) := dk_180 1 102 (dk_at dksX0_member_0 9 rfl rfl)
theorem dX0_member_12 : decode cX0_member 12 = .ok (.invokevirtual 288, 3) := dk_182 1 32 (dk_at dksX0_member_0 12 rfl rfl)
theorem dX0_member_15 : decode cX0_member 15 = .ok (.goto 40, 3) := dk_167 0 40 (dk_at dksX0_member_0 15 rfl rfl)
theorem dX0_member_18 : decode cX0_member 18 = .ok (.iload_n 1, 1) := dk_27 (dk_at dksX0_member_0 18 rfl rfl)
theorem dX0_member_19 : decode cX0_member 19 = .ok (.iconst 0, 1) := dk_3 (dk_at dksX0_member_0 19 rfl rfl)
theorem dX0_member_20 : decode cX0_member 20 = .ok (.sipush 4095, 3) := dk_17 15 255 (dk_at dksX0_member_0 20 rfl rfl)
theorem dX0_member_23 : decode cX0_member 23 = .ok (.invokestatic 81, 3) := dk_184 0 81 (dk_at dksX0_member_1 0 rfl rfl)
theorem dX0_member_26 : decode cX0_member 26 = .ok (.ifCond .eq 28, 3) := dk_153 0 28 (dk_at dksX0_member_1 3 rfl rfl)
theorem dX0_member_29 : decode cX0_member 29 = .ok (.iload_n 2, 1) := dk_28 (dk_at dksX0_member_1 6 rfl rfl)
theorem dX0_member_30 : decode cX0_member 30 = .ok (.iconst 1, 1) := dk_4 (dk_at dksX0_member_1 7 rfl rfl)
theorem dX0_member_31 : decode cX0_member 31 = .ok (.bipush 9, 2) := dk_16 9 (dk_at dksX0_member_1 8 rfl rfl)
theorem dX0_member_33 : decode cX0_member 33 = .ok (.invokestatic 81, 3) := dk_184 0 81 (dk_at dksX0_member_1 10 rfl rfl)
theorem dX0_member_36 : decode cX0_member 36 = .ok (.ifCond .eq 18, 3) := dk_153 0 18 (dk_at dksX0_member_1 13 rfl rfl)
theorem dX0_member_39 : decode cX0_member 39 = .ok (.aload_n 0, 1) := dk_42 (dk_at dksX0_member_1 16 rfl rfl)
theorem dX0_member_40 : decode cX0_member 40 = .ok (.getfield 20, 3) := dk_180 0 20 (dk_at dksX0_member_1 17 rfl rfl)
theorem dX0_member_43 : decode cX0_member 43 = .ok (.getfield 358, 3) := dk_180 1 102 (dk_at dksX0_member_1 20 rfl rfl)
theorem dX0_member_46 : decode cX0_member 46 = .ok (.iload_n 1, 1) := dk_27 (dk_at dksX0_member_1 23 rfl rfl)
theorem dX0_member_47 : decode cX0_member 47 = .ok (.iload_n 2, 1) := dk_28 (dk_at dksX0_member_2 0 rfl rfl)
theorem dX0_member_48 : decode cX0_member 48 = .ok (.invokevirtual 293, 3) := dk_182 1 37 (dk_at dksX0_member_2 1 rfl rfl)
theorem dX0_member_51 : decode cX0_member 51 = .ok (.goto 4, 3) := dk_167 0 4 (dk_at dksX0_member_2 4 rfl rfl)
theorem dX0_member_54 : decode cX0_member 54 = .ok (.iconst (-1), 1) := dk_2 (dk_at dksX0_member_2 7 rfl rfl)
theorem dX0_member_55 : decode cX0_member 55 = .ok (.ireturn, 1) := dk_172 (dk_at dksX0_member_2 8 rfl rfl)
abbrev cX0_council : ByteArray := prog_1_method_61_code
def yX0_council : MethodName := ⟨RX0, "council", "(I)I"⟩
def dkwX0_council_5 : List UInt8 := [164, 0, 15, 21, 4, 21, 5, 184, 1, 8, 184, 0, 65, 54, 4, 132, 5, 1, 167, 255, 219, 21, 4, 172]
abbrev dktX0_council_5 : List UInt8 := dkwX0_council_5 ++ []
def dkwX0_council_4 : List UInt8 := [3, 54, 5, 21, 5, 28, 163, 0, 37, 5, 42, 21, 5, 182, 1, 108, 104, 42, 28, 182, 1, 108]
abbrev dktX0_council_4 : List UInt8 := dkwX0_council_4 ++ dktX0_council_5
def dkwX0_council_3 : List UInt8 := [132, 4, 1, 167, 255, 215, 27, 154, 0, 5, 29, 172, 42, 180, 0, 20, 180, 1, 102, 180, 1, 43, 54, 4]
abbrev dktX0_council_3 : List UInt8 := dkwX0_council_3 ++ dktX0_council_4
def dkwX0_council_2 : List UInt8 := [182, 1, 108, 104, 42, 28, 182, 1, 108, 164, 0, 10, 4, 21, 4, 120, 167, 0, 4, 3, 128, 62]
abbrev dktX0_council_2 : List UInt8 := dkwX0_council_2 ++ dktX0_council_3
def dkwX0_council_1 : List UInt8 := [100, 61, 3, 62, 3, 54, 4, 21, 4, 16, 12, 162, 0, 40, 29, 5, 42, 42, 21, 4, 182, 1, 105]
abbrev dktX0_council_1 : List UInt8 := dkwX0_council_1 ++ dktX0_council_2
def dkwX0_council_0 : List UInt8 := [27, 3, 4, 184, 0, 81, 154, 0, 5, 2, 172, 4, 42, 180, 0, 20, 180, 1, 102, 180, 1, 43, 120, 4]
abbrev dktX0_council_0 : List UInt8 := dkwX0_council_0 ++ dktX0_council_1
theorem dksX0_council_0 : cX0_council.data.toList.drop 0 = dktX0_council_0 := by decide +kernel
theorem dksX0_council_1 : cX0_council.data.toList.drop 24 = dktX0_council_1 := dk_seg dksX0_council_0 24 rfl rfl
theorem dksX0_council_2 : cX0_council.data.toList.drop 47 = dktX0_council_2 := dk_seg dksX0_council_1 23 rfl rfl
theorem dksX0_council_3 : cX0_council.data.toList.drop 69 = dktX0_council_3 := dk_seg dksX0_council_2 22 rfl rfl
theorem dksX0_council_4 : cX0_council.data.toList.drop 93 = dktX0_council_4 := dk_seg dksX0_council_3 24 rfl rfl
theorem dksX0_council_5 : cX0_council.data.toList.drop 115 = dktX0_council_5 := dk_seg dksX0_council_4 22 rfl rfl
theorem dX0_council_0 : decode cX0_council 0 = .ok (.iload_n 1, 1) := dk_27 (dk_at dksX0_council_0 0 rfl rfl)
theorem dX0_council_1 : decode cX0_council 1 = .ok (.iconst 0, 1) := dk_3 (dk_at dksX0_council_0 1 rfl rfl)
theorem dX0_council_2 : decode cX0_council 2 = .ok (.iconst 1, 1) := dk_4 (dk_at dksX0_council_0 2 rfl rfl)
theorem dX0_council_3 : decode cX0_council 3 = .ok (.invokestatic 81, 3) := dk_184 0 81 (dk_at dksX0_council_0 3 rfl rfl)
theorem dX0_council_6 : decode cX0_council 6 = .ok (.ifCond .ne 5, 3) := dk_154 0 5 (dk_at dksX0_council_0 6 rfl rfl)
theorem dX0_council_9 : decode cX0_council 9 = .ok (.iconst (-1), 1) := dk_2 (dk_at dksX0_council_0 9 rfl rfl)
theorem dX0_council_10 : decode cX0_council 10 = .ok (.ireturn, 1) := dk_172 (dk_at dksX0_council_0 10 rfl rfl)
theorem dX0_council_11 : decode cX0_council 11 = .ok (.iconst 1, 1) := dk_4 (dk_at dksX0_council_0 11 rfl rfl)
theorem dX0_council_12 : decode cX0_council 12 = .ok (.aload_n 0, 1) := dk_42 (dk_at dksX0_council_0 12 rfl rfl)
theorem dX0_council_13 : decode cX0_council 13 = .ok (.getfield 20, 3) := dk_180 0 20 (dk_at dksX0_council_0 13 rfl rfl)
theorem dX0_council_16 : decode cX0_council 16 = .ok (.getfield 358, 3) := dk_180 1 102 (dk_at dksX0_council_0 16 rfl rfl)
theorem dX0_council_19 : decode cX0_council 19 = .ok (.getfield 299, 3) := dk_180 1 43 (dk_at dksX0_council_0 19 rfl rfl)
theorem dX0_council_22 : decode cX0_council 22 = .ok (.ishl, 1) := dk_120 (dk_at dksX0_council_0 22 rfl rfl)
theorem dX0_council_23 : decode cX0_council 23 = .ok (.iconst 1, 1) := dk_4 (dk_at dksX0_council_0 23 rfl rfl)
theorem dX0_council_24 : decode cX0_council 24 = .ok (.isub, 1) := dk_100 (dk_at dksX0_council_1 0 rfl rfl)
theorem dX0_council_25 : decode cX0_council 25 = .ok (.istore_n 2, 1) := dk_61 (dk_at dksX0_council_1 1 rfl rfl)
theorem dX0_council_26 : decode cX0_council 26 = .ok (.iconst 0, 1) := dk_3 (dk_at dksX0_council_1 2 rfl rfl)
theorem dX0_council_27 : decode cX0_council 27 = .ok (.istore_n 3, 1) := dk_62 (dk_at dksX0_council_1 3 rfl rfl)
theorem dX0_council_28 : decode cX0_council 28 = .ok (.iconst 0, 1) := dk_3 (dk_at dksX0_council_1 4 rfl rfl)
theorem dX0_council_29 : decode cX0_council 29 = .ok (.istore 4, 2) := dk_54 4 (dk_at dksX0_council_1 5 rfl rfl)
theorem dX0_council_31 : decode cX0_council 31 = .ok (.iload 4, 2) := dk_21 4 (dk_at dksX0_council_1 7 rfl rfl)
theorem dX0_council_33 : decode cX0_council 33 = .ok (.bipush 12, 2) := dk_16 12 (dk_at dksX0_council_1 9 rfl rfl)
theorem dX0_council_35 : decode cX0_council 35 = .ok (.if_icmp .ge 40, 3) := dk_162 0 40 (dk_at dksX0_council_1 11 rfl rfl)
theorem dX0_council_38 : decode cX0_council 38 = .ok (.iload_n 3, 1) := dk_29 (dk_at dksX0_council_1 14 rfl rfl)
theorem dX0_council_39 : decode cX0_council 39 = .ok (.iconst 2, 1) := dk_5 (dk_at dksX0_council_1 15 rfl rfl)
theorem dX0_council_40 : decode cX0_council 40 = .ok (.aload_n 0, 1) := dk_42 (dk_at dksX0_council_1 16 rfl rfl)
theorem dX0_council_41 : decode cX0_council 41 = .ok (.aload_n 0, 1) := dk_42 (dk_at dksX0_council_1 17 rfl rfl)
theorem dX0_council_42 : decode cX0_council 42 = .ok (.iload 4, 2) := dk_21 4 (dk_at dksX0_council_1 18 rfl rfl)
theorem dX0_council_44 : decode cX0_council 44 = .ok (.invokevirtual 361, 3) := dk_182 1 105 (dk_at dksX0_council_1 20 rfl rfl)
theorem dX0_council_47 : decode cX0_council 47 = .ok (.invokevirtual 364, 3) := dk_182 1 108 (dk_at dksX0_council_2 0 rfl rfl)
theorem dX0_council_50 : decode cX0_council 50 = .ok (.imul, 1) := dk_104 (dk_at dksX0_council_2 3 rfl rfl)
theorem dX0_council_51 : decode cX0_council 51 = .ok (.aload_n 0, 1) := dk_42 (dk_at dksX0_council_2 4 rfl rfl)
theorem dX0_council_52 : decode cX0_council 52 = .ok (.iload_n 2, 1) := dk_28 (dk_at dksX0_council_2 5 rfl rfl)
theorem dX0_council_53 : decode cX0_council 53 = .ok (.invokevirtual 364, 3) := dk_182 1 108 (dk_at dksX0_council_2 6 rfl rfl)
theorem dX0_council_56 : decode cX0_council 56 = .ok (.if_icmp .le 10, 3) := dk_164 0 10 (dk_at dksX0_council_2 9 rfl rfl)
theorem dX0_council_59 : decode cX0_council 59 = .ok (.iconst 1, 1) := dk_4 (dk_at dksX0_council_2 12 rfl rfl)
theorem dX0_council_60 : decode cX0_council 60 = .ok (.iload 4, 2) := dk_21 4 (dk_at dksX0_council_2 13 rfl rfl)
theorem dX0_council_62 : decode cX0_council 62 = .ok (.ishl, 1) := dk_120 (dk_at dksX0_council_2 15 rfl rfl)
theorem dX0_council_63 : decode cX0_council 63 = .ok (.goto 4, 3) := dk_167 0 4 (dk_at dksX0_council_2 16 rfl rfl)
theorem dX0_council_66 : decode cX0_council 66 = .ok (.iconst 0, 1) := dk_3 (dk_at dksX0_council_2 19 rfl rfl)
theorem dX0_council_67 : decode cX0_council 67 = .ok (.ior, 1) := dk_128 (dk_at dksX0_council_2 20 rfl rfl)
theorem dX0_council_68 : decode cX0_council 68 = .ok (.istore_n 3, 1) := dk_62 (dk_at dksX0_council_2 21 rfl rfl)
theorem dX0_council_69 : decode cX0_council 69 = .ok (.iinc 4 1, 3) := dk_132 4 1 (dk_at dksX0_council_3 0 rfl rfl)
theorem dX0_council_72 : decode cX0_council 72 = .ok (.goto (-41), 3) := dk_167 255 215 (dk_at dksX0_council_3 3 rfl rfl)
theorem dX0_council_75 : decode cX0_council 75 = .ok (.iload_n 1, 1) := dk_27 (dk_at dksX0_council_3 6 rfl rfl)
theorem dX0_council_76 : decode cX0_council 76 = .ok (.ifCond .ne 5, 3) := dk_154 0 5 (dk_at dksX0_council_3 7 rfl rfl)
theorem dX0_council_79 : decode cX0_council 79 = .ok (.iload_n 3, 1) := dk_29 (dk_at dksX0_council_3 10 rfl rfl)
theorem dX0_council_80 : decode cX0_council 80 = .ok (.ireturn, 1) := dk_172 (dk_at dksX0_council_3 11 rfl rfl)
theorem dX0_council_81 : decode cX0_council 81 = .ok (.aload_n 0, 1) := dk_42 (dk_at dksX0_council_3 12 rfl rfl)
theorem dX0_council_82 : decode cX0_council 82 = .ok (.getfield 20, 3) := dk_180 0 20 (dk_at dksX0_council_3 13 rfl rfl)
theorem dX0_council_85 : decode cX0_council 85 = .ok (.getfield 358, 3) := dk_180 1 102 (dk_at dksX0_council_3 16 rfl rfl)
theorem dX0_council_88 : decode cX0_council 88 = .ok (.getfield 299, 3) := dk_180 1 43 (dk_at dksX0_council_3 19 rfl rfl)
theorem dX0_council_91 : decode cX0_council 91 = .ok (.istore 4, 2) := dk_54 4 (dk_at dksX0_council_3 22 rfl rfl)
theorem dX0_council_93 : decode cX0_council 93 = .ok (.iconst 0, 1) := dk_3 (dk_at dksX0_council_4 0 rfl rfl)
theorem dX0_council_94 : decode cX0_council 94 = .ok (.istore 5, 2) := dk_54 5 (dk_at dksX0_council_4 1 rfl rfl)
theorem dX0_council_96 : decode cX0_council 96 = .ok (.iload 5, 2) := dk_21 5 (dk_at dksX0_council_4 3 rfl rfl)
theorem dX0_council_98 : decode cX0_council 98 = .ok (.iload_n 2, 1) := dk_28 (dk_at dksX0_council_4 5 rfl rfl)
theorem dX0_council_99 : decode cX0_council 99 = .ok (.if_icmp .gt 37, 3) := dk_163 0 37 (dk_at dksX0_council_4 6 rfl rfl)
theorem dX0_council_102 : decode cX0_council 102 = .ok (.iconst 2, 1) := dk_5 (dk_at dksX0_council_4 9 rfl rfl)
theorem dX0_council_103 : decode cX0_council 103 = .ok (.aload_n 0, 1) := dk_42 (dk_at dksX0_council_4 10 rfl rfl)
theorem dX0_council_104 : decode cX0_council 104 = .ok (.iload 5, 2) := dk_21 5 (dk_at dksX0_council_4 11 rfl rfl)
theorem dX0_council_106 : decode cX0_council 106 = .ok (.invokevirtual 364, 3) := dk_182 1 108 (dk_at dksX0_council_4 13 rfl rfl)
theorem dX0_council_109 : decode cX0_council 109 = .ok (.imul, 1) := dk_104 (dk_at dksX0_council_4 16 rfl rfl)
theorem dX0_council_110 : decode cX0_council 110 = .ok (.aload_n 0, 1) := dk_42 (dk_at dksX0_council_4 17 rfl rfl)
theorem dX0_council_111 : decode cX0_council 111 = .ok (.iload_n 2, 1) := dk_28 (dk_at dksX0_council_4 18 rfl rfl)
theorem dX0_council_112 : decode cX0_council 112 = .ok (.invokevirtual 364, 3) := dk_182 1 108 (dk_at dksX0_council_4 19 rfl rfl)
theorem dX0_council_115 : decode cX0_council 115 = .ok (.if_icmp .le 15, 3) := dk_164 0 15 (dk_at dksX0_council_5 0 rfl rfl)
theorem dX0_council_118 : decode cX0_council 118 = .ok (.iload 4, 2) := dk_21 4 (dk_at dksX0_council_5 3 rfl rfl)
theorem dX0_council_120 : decode cX0_council 120 = .ok (.iload 5, 2) := dk_21 5 (dk_at dksX0_council_5 5 rfl rfl)
theorem dX0_council_122 : decode cX0_council 122 = .ok (.invokestatic 264, 3) := dk_184 1 8 (dk_at dksX0_council_5 7 rfl rfl)
theorem dX0_council_125 : decode cX0_council 125 = .ok (.invokestatic 65, 3) := dk_184 0 65 (dk_at dksX0_council_5 10 rfl rfl)
theorem dX0_council_128 : decode cX0_council 128 = .ok (.istore 4, 2) := dk_54 4 (dk_at dksX0_council_5 13 rfl rfl)
theorem dX0_council_130 : decode cX0_council 130 = .ok (.iinc 5 1, 3) := dk_132 5 1 (dk_at dksX0_council_5 15 rfl rfl)
theorem dX0_council_133 : decode cX0_council 133 = .ok (.goto (-37), 3) := dk_167 255 219 (dk_at dksX0_council_5 18 rfl rfl)
theorem dX0_council_136 : decode cX0_council 136 = .ok (.iload 4, 2) := dk_21 4 (dk_at dksX0_council_5 21 rfl rfl)
theorem dX0_council_138 : decode cX0_council 138 = .ok (.ireturn, 1) := dk_172 (dk_at dksX0_council_5 23 rfl rfl)
abbrev cX0_wanting : ByteArray := prog_1_method_60_code
def yX0_wanting : MethodName := ⟨RX0, "wanting", "(I)I"⟩
def dkwX0_wanting_1 : List UInt8 := [180, 1, 102, 29, 182, 1, 40, 27, 122, 4, 126, 29, 120, 128, 61, 132, 3, 1, 167, 255, 219, 28, 172]
abbrev dktX0_wanting_1 : List UInt8 := dkwX0_wanting_1 ++ []
def dkwX0_wanting_0 : List UInt8 := [3, 61, 3, 62, 29, 42, 180, 0, 20, 180, 1, 102, 180, 1, 43, 162, 0, 29, 28, 42, 180, 0, 20]
abbrev dktX0_wanting_0 : List UInt8 := dkwX0_wanting_0 ++ dktX0_wanting_1
theorem dksX0_wanting_0 : cX0_wanting.data.toList.drop 0 = dktX0_wanting_0 := by decide +kernel
theorem dksX0_wanting_1 : cX0_wanting.data.toList.drop 23 = dktX0_wanting_1 := dk_seg dksX0_wanting_0 23 rfl rfl
theorem dX0_wanting_0 : decode cX0_wanting 0 = .ok (.iconst 0, 1) := dk_3 (dk_at dksX0_wanting_0 0 rfl rfl)
theorem dX0_wanting_1 : decode cX0_wanting 1 = .ok (.istore_n 2, 1) := dk_61 (dk_at dksX0_wanting_0 1 rfl rfl)
theorem dX0_wanting_2 : decode cX0_wanting 2 = .ok (.iconst 0, 1) := dk_3 (dk_at dksX0_wanting_0 2 rfl rfl)
theorem dX0_wanting_3 : decode cX0_wanting 3 = .ok (.istore_n 3, 1) := dk_62 (dk_at dksX0_wanting_0 3 rfl rfl)
theorem dX0_wanting_4 : decode cX0_wanting 4 = .ok (.iload_n 3, 1) := dk_29 (dk_at dksX0_wanting_0 4 rfl rfl)
theorem dX0_wanting_5 : decode cX0_wanting 5 = .ok (.aload_n 0, 1) := dk_42 (dk_at dksX0_wanting_0 5 rfl rfl)
theorem dX0_wanting_6 : decode cX0_wanting 6 = .ok (.getfield 20, 3) := dk_180 0 20 (dk_at dksX0_wanting_0 6 rfl rfl)
theorem dX0_wanting_9 : decode cX0_wanting 9 = .ok (.getfield 358, 3) := dk_180 1 102 (dk_at dksX0_wanting_0 9 rfl rfl)
theorem dX0_wanting_12 : decode cX0_wanting 12 = .ok (.getfield 299, 3) := dk_180 1 43 (dk_at dksX0_wanting_0 12 rfl rfl)
theorem dX0_wanting_15 : decode cX0_wanting 15 = .ok (.if_icmp .ge 29, 3) := dk_162 0 29 (dk_at dksX0_wanting_0 15 rfl rfl)
theorem dX0_wanting_18 : decode cX0_wanting 18 = .ok (.iload_n 2, 1) := dk_28 (dk_at dksX0_wanting_0 18 rfl rfl)
theorem dX0_wanting_19 : decode cX0_wanting 19 = .ok (.aload_n 0, 1) := dk_42 (dk_at dksX0_wanting_0 19 rfl rfl)
theorem dX0_wanting_20 : decode cX0_wanting 20 = .ok (.getfield 20, 3) := dk_180 0 20 (dk_at dksX0_wanting_0 20 rfl rfl)
theorem dX0_wanting_23 : decode cX0_wanting 23 = .ok (.getfield 358, 3) := dk_180 1 102 (dk_at dksX0_wanting_1 0 rfl rfl)
theorem dX0_wanting_26 : decode cX0_wanting 26 = .ok (.iload_n 3, 1) := dk_29 (dk_at dksX0_wanting_1 3 rfl rfl)
theorem dX0_wanting_27 : decode cX0_wanting 27 = .ok (.invokevirtual 296, 3) := dk_182 1 40 (dk_at dksX0_wanting_1 4 rfl rfl)
theorem dX0_wanting_30 : decode cX0_wanting 30 = .ok (.iload_n 1, 1) := dk_27 (dk_at dksX0_wanting_1 7 rfl rfl)
theorem dX0_wanting_31 : decode cX0_wanting 31 = .ok (.ishr, 1) := dk_122 (dk_at dksX0_wanting_1 8 rfl rfl)
theorem dX0_wanting_32 : decode cX0_wanting 32 = .ok (.iconst 1, 1) := dk_4 (dk_at dksX0_wanting_1 9 rfl rfl)
theorem dX0_wanting_33 : decode cX0_wanting 33 = .ok (.iand, 1) := dk_126 (dk_at dksX0_wanting_1 10 rfl rfl)
theorem dX0_wanting_34 : decode cX0_wanting 34 = .ok (.iload_n 3, 1) := dk_29 (dk_at dksX0_wanting_1 11 rfl rfl)
theorem dX0_wanting_35 : decode cX0_wanting 35 = .ok (.ishl, 1) := dk_120 (dk_at dksX0_wanting_1 12 rfl rfl)
theorem dX0_wanting_36 : decode cX0_wanting 36 = .ok (.ior, 1) := dk_128 (dk_at dksX0_wanting_1 13 rfl rfl)
theorem dX0_wanting_37 : decode cX0_wanting 37 = .ok (.istore_n 2, 1) := dk_61 (dk_at dksX0_wanting_1 14 rfl rfl)
theorem dX0_wanting_38 : decode cX0_wanting 38 = .ok (.iinc 3 1, 3) := dk_132 3 1 (dk_at dksX0_wanting_1 15 rfl rfl)
theorem dX0_wanting_41 : decode cX0_wanting 41 = .ok (.goto (-37), 3) := dk_167 255 219 (dk_at dksX0_wanting_1 18 rfl rfl)
theorem dX0_wanting_44 : decode cX0_wanting 44 = .ok (.iload_n 2, 1) := dk_28 (dk_at dksX0_wanting_1 21 rfl rfl)
theorem dX0_wanting_45 : decode cX0_wanting 45 = .ok (.ireturn, 1) := dk_172 (dk_at dksX0_wanting_1 22 rfl rfl)
abbrev cX0_weights : ByteArray := prog_1_method_59_code
def yX0_weights : MethodName := ⟨RX0, "weights", "(I)I"⟩
def dkwX0_weights_2 : List UInt8 := [167, 255, 212, 28, 172]
abbrev dktX0_weights_2 : List UInt8 := dkwX0_weights_2 ++ []
def dkwX0_weights_1 : List UInt8 := [4, 160, 0, 17, 42, 180, 0, 20, 180, 1, 102, 29, 182, 1, 77, 167, 0, 4, 3, 96, 61, 132, 3, 1]
abbrev dktX0_weights_1 : List UInt8 := dkwX0_weights_1 ++ dktX0_weights_2
def dkwX0_weights_0 : List UInt8 := [3, 61, 3, 62, 29, 42, 180, 0, 20, 180, 1, 102, 180, 1, 43, 162, 0, 36, 28, 27, 29, 122, 4, 126]
abbrev dktX0_weights_0 : List UInt8 := dkwX0_weights_0 ++ dktX0_weights_1
theorem dksX0_weights_0 : cX0_weights.data.toList.drop 0 = dktX0_weights_0 := by decide +kernel
theorem dksX0_weights_1 : cX0_weights.data.toList.drop 24 = dktX0_weights_1 := dk_seg dksX0_weights_0 24 rfl rfl
theorem dksX0_weights_2 : cX0_weights.data.toList.drop 48 = dktX0_weights_2 := dk_seg dksX0_weights_1 24 rfl rfl
theorem dX0_weights_0 : decode cX0_weights 0 = .ok (.iconst 0, 1) := dk_3 (dk_at dksX0_weights_0 0 rfl rfl)
theorem dX0_weights_1 : decode cX0_weights 1 = .ok (.istore_n 2, 1) := dk_61 (dk_at dksX0_weights_0 1 rfl rfl)
theorem dX0_weights_2 : decode cX0_weights 2 = .ok (.iconst 0, 1) := dk_3 (dk_at dksX0_weights_0 2 rfl rfl)
theorem dX0_weights_3 : decode cX0_weights 3 = .ok (.istore_n 3, 1) := dk_62 (dk_at dksX0_weights_0 3 rfl rfl)
theorem dX0_weights_4 : decode cX0_weights 4 = .ok (.iload_n 3, 1) := dk_29 (dk_at dksX0_weights_0 4 rfl rfl)
theorem dX0_weights_5 : decode cX0_weights 5 = .ok (.aload_n 0, 1) := dk_42 (dk_at dksX0_weights_0 5 rfl rfl)
theorem dX0_weights_6 : decode cX0_weights 6 = .ok (.getfield 20, 3) := dk_180 0 20 (dk_at dksX0_weights_0 6 rfl rfl)
theorem dX0_weights_9 : decode cX0_weights 9 = .ok (.getfield 358, 3) := dk_180 1 102 (dk_at dksX0_weights_0 9 rfl rfl)
theorem dX0_weights_12 : decode cX0_weights 12 = .ok (.getfield 299, 3) := dk_180 1 43 (dk_at dksX0_weights_0 12 rfl rfl)
theorem dX0_weights_15 : decode cX0_weights 15 = .ok (.if_icmp .ge 36, 3) := dk_162 0 36 (dk_at dksX0_weights_0 15 rfl rfl)
theorem dX0_weights_18 : decode cX0_weights 18 = .ok (.iload_n 2, 1) := dk_28 (dk_at dksX0_weights_0 18 rfl rfl)
theorem dX0_weights_19 : decode cX0_weights 19 = .ok (.iload_n 1, 1) := dk_27 (dk_at dksX0_weights_0 19 rfl rfl)
theorem dX0_weights_20 : decode cX0_weights 20 = .ok (.iload_n 3, 1) := dk_29 (dk_at dksX0_weights_0 20 rfl rfl)
theorem dX0_weights_21 : decode cX0_weights 21 = .ok (.ishr, 1) := dk_122 (dk_at dksX0_weights_0 21 rfl rfl)
theorem dX0_weights_22 : decode cX0_weights 22 = .ok (.iconst 1, 1) := dk_4 (dk_at dksX0_weights_0 22 rfl rfl)
theorem dX0_weights_23 : decode cX0_weights 23 = .ok (.iand, 1) := dk_126 (dk_at dksX0_weights_0 23 rfl rfl)
theorem dX0_weights_24 : decode cX0_weights 24 = .ok (.iconst 1, 1) := dk_4 (dk_at dksX0_weights_1 0 rfl rfl)
theorem dX0_weights_25 : decode cX0_weights 25 = .ok (.if_icmp .ne 17, 3) := dk_160 0 17 (dk_at dksX0_weights_1 1 rfl rfl)
theorem dX0_weights_28 : decode cX0_weights 28 = .ok (.aload_n 0, 1) := dk_42 (dk_at dksX0_weights_1 4 rfl rfl)
theorem dX0_weights_29 : decode cX0_weights 29 = .ok (.getfield 20, 3) := dk_180 0 20 (dk_at dksX0_weights_1 5 rfl rfl)
theorem dX0_weights_32 : decode cX0_weights 32 = .ok (.getfield 358, 3) := dk_180 1 102 (dk_at dksX0_weights_1 8 rfl rfl)
theorem dX0_weights_35 : decode cX0_weights 35 = .ok (.iload_n 3, 1) := dk_29 (dk_at dksX0_weights_1 11 rfl rfl)
theorem dX0_weights_36 : decode cX0_weights 36 = .ok (.invokevirtual 333, 3) := dk_182 1 77 (dk_at dksX0_weights_1 12 rfl rfl)
theorem dX0_weights_39 : decode cX0_weights 39 = .ok (.goto 4, 3) := dk_167 0 4 (dk_at dksX0_weights_1 15 rfl rfl)
theorem dX0_weights_42 : decode cX0_weights 42 = .ok (.iconst 0, 1) := dk_3 (dk_at dksX0_weights_1 18 rfl rfl)
theorem dX0_weights_43 : decode cX0_weights 43 = .ok (.iadd, 1) := dk_96 (dk_at dksX0_weights_1 19 rfl rfl)
theorem dX0_weights_44 : decode cX0_weights 44 = .ok (.istore_n 2, 1) := dk_61 (dk_at dksX0_weights_1 20 rfl rfl)
theorem dX0_weights_45 : decode cX0_weights 45 = .ok (.iinc 3 1, 3) := dk_132 3 1 (dk_at dksX0_weights_1 21 rfl rfl)
theorem dX0_weights_48 : decode cX0_weights 48 = .ok (.goto (-44), 3) := dk_167 255 212 (dk_at dksX0_weights_2 0 rfl rfl)
theorem dX0_weights_51 : decode cX0_weights 51 = .ok (.iload_n 2, 1) := dk_28 (dk_at dksX0_weights_2 3 rfl rfl)
theorem dX0_weights_52 : decode cX0_weights 52 = .ok (.ireturn, 1) := dk_172 (dk_at dksX0_weights_2 4 rfl rfl)
abbrev cX0_game : ByteArray := prog_1_method_66_code
def yX0_game : MethodName := ⟨RX0, "game", "(II)I"⟩
def dkwX0_game_2 : List UInt8 := [182, 1, 121, 172]
abbrev dktX0_game_2 : List UInt8 := dkwX0_game_2 ++ []
def dkwX0_game_1 : List UInt8 := [54, 4, 21, 4, 27, 162, 0, 16, 16, 7, 29, 104, 28, 96, 62, 132, 4, 1, 167, 255, 240, 42, 29]
abbrev dktX0_game_1 : List UInt8 := dkwX0_game_1 ++ dktX0_game_2
def dkwX0_game_0 : List UInt8 := [27, 4, 8, 184, 0, 81, 153, 0, 13, 28, 4, 16, 6, 184, 0, 81, 154, 0, 5, 2, 172, 3, 62, 3]
abbrev dktX0_game_0 : List UInt8 := dkwX0_game_0 ++ dktX0_game_1
theorem dksX0_game_0 : cX0_game.data.toList.drop 0 = dktX0_game_0 := by decide +kernel
theorem dksX0_game_1 : cX0_game.data.toList.drop 24 = dktX0_game_1 := dk_seg dksX0_game_0 24 rfl rfl
theorem dksX0_game_2 : cX0_game.data.toList.drop 47 = dktX0_game_2 := dk_seg dksX0_game_1 23 rfl rfl
theorem dX0_game_0 : decode cX0_game 0 = .ok (.iload_n 1, 1) := dk_27 (dk_at dksX0_game_0 0 rfl rfl)
theorem dX0_game_1 : decode cX0_game 1 = .ok (.iconst 1, 1) := dk_4 (dk_at dksX0_game_0 1 rfl rfl)
theorem dX0_game_2 : decode cX0_game 2 = .ok (.iconst 5, 1) := dk_8 (dk_at dksX0_game_0 2 rfl rfl)
theorem dX0_game_3 : decode cX0_game 3 = .ok (.invokestatic 81, 3) := dk_184 0 81 (dk_at dksX0_game_0 3 rfl rfl)
theorem dX0_game_6 : decode cX0_game 6 = .ok (.ifCond .eq 13, 3) := dk_153 0 13 (dk_at dksX0_game_0 6 rfl rfl)
theorem dX0_game_9 : decode cX0_game 9 = .ok (.iload_n 2, 1) := dk_28 (dk_at dksX0_game_0 9 rfl rfl)
theorem dX0_game_10 : decode cX0_game 10 = .ok (.iconst 1, 1) := dk_4 (dk_at dksX0_game_0 10 rfl rfl)
theorem dX0_game_11 : decode cX0_game 11 = .ok (.bipush 6, 2) := dk_16 6 (dk_at dksX0_game_0 11 rfl rfl)
theorem dX0_game_13 : decode cX0_game 13 = .ok (.invokestatic 81, 3) := dk_184 0 81 (dk_at dksX0_game_0 13 rfl rfl)
theorem dX0_game_16 : decode cX0_game 16 = .ok (.ifCond .ne 5, 3) := dk_154 0 5 (dk_at dksX0_game_0 16 rfl rfl)
theorem dX0_game_19 : decode cX0_game 19 = .ok (.iconst (-1), 1) := dk_2 (dk_at dksX0_game_0 19 rfl rfl)
theorem dX0_game_20 : decode cX0_game 20 = .ok (.ireturn, 1) := dk_172 (dk_at dksX0_game_0 20 rfl rfl)
theorem dX0_game_21 : decode cX0_game 21 = .ok (.iconst 0, 1) := dk_3 (dk_at dksX0_game_0 21 rfl rfl)
theorem dX0_game_22 : decode cX0_game 22 = .ok (.istore_n 3, 1) := dk_62 (dk_at dksX0_game_0 22 rfl rfl)
theorem dX0_game_23 : decode cX0_game 23 = .ok (.iconst 0, 1) := dk_3 (dk_at dksX0_game_0 23 rfl rfl)
theorem dX0_game_24 : decode cX0_game 24 = .ok (.istore 4, 2) := dk_54 4 (dk_at dksX0_game_1 0 rfl rfl)
theorem dX0_game_26 : decode cX0_game 26 = .ok (.iload 4, 2) := dk_21 4 (dk_at dksX0_game_1 2 rfl rfl)
theorem dX0_game_28 : decode cX0_game 28 = .ok (.iload_n 1, 1) := dk_27 (dk_at dksX0_game_1 4 rfl rfl)
theorem dX0_game_29 : decode cX0_game 29 = .ok (.if_icmp .ge 16, 3) := dk_162 0 16 (dk_at dksX0_game_1 5 rfl rfl)
theorem dX0_game_32 : decode cX0_game 32 = .ok (.bipush 7, 2) := dk_16 7 (dk_at dksX0_game_1 8 rfl rfl)
theorem dX0_game_34 : decode cX0_game 34 = .ok (.iload_n 3, 1) := dk_29 (dk_at dksX0_game_1 10 rfl rfl)
theorem dX0_game_35 : decode cX0_game 35 = .ok (.imul, 1) := dk_104 (dk_at dksX0_game_1 11 rfl rfl)
theorem dX0_game_36 : decode cX0_game 36 = .ok (.iload_n 2, 1) := dk_28 (dk_at dksX0_game_1 12 rfl rfl)
theorem dX0_game_37 : decode cX0_game 37 = .ok (.iadd, 1) := dk_96 (dk_at dksX0_game_1 13 rfl rfl)
theorem dX0_game_38 : decode cX0_game 38 = .ok (.istore_n 3, 1) := dk_62 (dk_at dksX0_game_1 14 rfl rfl)
theorem dX0_game_39 : decode cX0_game 39 = .ok (.iinc 4 1, 3) := dk_132 4 1 (dk_at dksX0_game_1 15 rfl rfl)
theorem dX0_game_42 : decode cX0_game 42 = .ok (.goto (-16), 3) := dk_167 255 240 (dk_at dksX0_game_1 18 rfl rfl)
theorem dX0_game_45 : decode cX0_game 45 = .ok (.aload_n 0, 1) := dk_42 (dk_at dksX0_game_1 21 rfl rfl)
theorem dX0_game_46 : decode cX0_game 46 = .ok (.iload_n 3, 1) := dk_29 (dk_at dksX0_game_1 22 rfl rfl)
theorem dX0_game_47 : decode cX0_game 47 = .ok (.invokevirtual 377, 3) := dk_182 1 121 (dk_at dksX0_game_2 0 rfl rfl)
theorem dX0_game_50 : decode cX0_game 50 = .ok (.ireturn, 1) := dk_172 (dk_at dksX0_game_2 3 rfl rfl)
abbrev cX0_winning : ByteArray := prog_1_method_64_code
def yX0_winning : MethodName := ⟨RX0, "winning", "(I)I"⟩
def dkwX0_winning_2 : List UInt8 := [132, 2, 1, 167, 255, 211, 2, 172]
abbrev dktX0_winning_2 : List UInt8 := dkwX0_winning_2 ++ []
def dkwX0_winning_1 : List UInt8 := [184, 1, 114, 182, 1, 118, 153, 0, 10, 16, 10, 28, 104, 29, 96, 172, 132, 3, 1, 167, 255, 224]
abbrev dktX0_winning_1 : List UInt8 := dkwX0_winning_1 ++ dktX0_winning_2
def dkwX0_winning_0 : List UInt8 := [3, 61, 28, 8, 162, 0, 46, 3, 62, 29, 27, 28, 184, 1, 111, 162, 0, 29, 42, 27, 28, 29]
abbrev dktX0_winning_0 : List UInt8 := dkwX0_winning_0 ++ dktX0_winning_1
theorem dksX0_winning_0 : cX0_winning.data.toList.drop 0 = dktX0_winning_0 := by decide +kernel
theorem dksX0_winning_1 : cX0_winning.data.toList.drop 22 = dktX0_winning_1 := dk_seg dksX0_winning_0 22 rfl rfl
theorem dksX0_winning_2 : cX0_winning.data.toList.drop 44 = dktX0_winning_2 := dk_seg dksX0_winning_1 22 rfl rfl
theorem dX0_winning_0 : decode cX0_winning 0 = .ok (.iconst 0, 1) := dk_3 (dk_at dksX0_winning_0 0 rfl rfl)
theorem dX0_winning_1 : decode cX0_winning 1 = .ok (.istore_n 2, 1) := dk_61 (dk_at dksX0_winning_0 1 rfl rfl)
theorem dX0_winning_2 : decode cX0_winning 2 = .ok (.iload_n 2, 1) := dk_28 (dk_at dksX0_winning_0 2 rfl rfl)
theorem dX0_winning_3 : decode cX0_winning 3 = .ok (.iconst 5, 1) := dk_8 (dk_at dksX0_winning_0 3 rfl rfl)
theorem dX0_winning_4 : decode cX0_winning 4 = .ok (.if_icmp .ge 46, 3) := dk_162 0 46 (dk_at dksX0_winning_0 4 rfl rfl)
theorem dX0_winning_7 : decode cX0_winning 7 = .ok (.iconst 0, 1) := dk_3 (dk_at dksX0_winning_0 7 rfl rfl)
theorem dX0_winning_8 : decode cX0_winning 8 = .ok (.istore_n 3, 1) := dk_62 (dk_at dksX0_winning_0 8 rfl rfl)
theorem dX0_winning_9 : decode cX0_winning 9 = .ok (.iload_n 3, 1) := dk_29 (dk_at dksX0_winning_0 9 rfl rfl)
theorem dX0_winning_10 : decode cX0_winning 10 = .ok (.iload_n 1, 1) := dk_27 (dk_at dksX0_winning_0 10 rfl rfl)
theorem dX0_winning_11 : decode cX0_winning 11 = .ok (.iload_n 2, 1) := dk_28 (dk_at dksX0_winning_0 11 rfl rfl)
theorem dX0_winning_12 : decode cX0_winning 12 = .ok (.invokestatic 367, 3) := dk_184 1 111 (dk_at dksX0_winning_0 12 rfl rfl)
theorem dX0_winning_15 : decode cX0_winning 15 = .ok (.if_icmp .ge 29, 3) := dk_162 0 29 (dk_at dksX0_winning_0 15 rfl rfl)
theorem dX0_winning_18 : decode cX0_winning 18 = .ok (.aload_n 0, 1) := dk_42 (dk_at dksX0_winning_0 18 rfl rfl)
theorem dX0_winning_19 : decode cX0_winning 19 = .ok (.iload_n 1, 1) := dk_27 (dk_at dksX0_winning_0 19 rfl rfl)
theorem dX0_winning_20 : decode cX0_winning 20 = .ok (.iload_n 2, 1) := dk_28 (dk_at dksX0_winning_0 20 rfl rfl)
theorem dX0_winning_21 : decode cX0_winning 21 = .ok (.iload_n 3, 1) := dk_29 (dk_at dksX0_winning_0 21 rfl rfl)
theorem dX0_winning_22 : decode cX0_winning 22 = .ok (.invokestatic 370, 3) := dk_184 1 114 (dk_at dksX0_winning_1 0 rfl rfl)
theorem dX0_winning_25 : decode cX0_winning 25 = .ok (.invokevirtual 374, 3) := dk_182 1 118 (dk_at dksX0_winning_1 3 rfl rfl)
theorem dX0_winning_28 : decode cX0_winning 28 = .ok (.ifCond .eq 10, 3) := dk_153 0 10 (dk_at dksX0_winning_1 6 rfl rfl)
theorem dX0_winning_31 : decode cX0_winning 31 = .ok (.bipush 10, 2) := dk_16 10 (dk_at dksX0_winning_1 9 rfl rfl)
theorem dX0_winning_33 : decode cX0_winning 33 = .ok (.iload_n 2, 1) := dk_28 (dk_at dksX0_winning_1 11 rfl rfl)
theorem dX0_winning_34 : decode cX0_winning 34 = .ok (.imul, 1) := dk_104 (dk_at dksX0_winning_1 12 rfl rfl)
theorem dX0_winning_35 : decode cX0_winning 35 = .ok (.iload_n 3, 1) := dk_29 (dk_at dksX0_winning_1 13 rfl rfl)
theorem dX0_winning_36 : decode cX0_winning 36 = .ok (.iadd, 1) := dk_96 (dk_at dksX0_winning_1 14 rfl rfl)
theorem dX0_winning_37 : decode cX0_winning 37 = .ok (.ireturn, 1) := dk_172 (dk_at dksX0_winning_1 15 rfl rfl)
theorem dX0_winning_38 : decode cX0_winning 38 = .ok (.iinc 3 1, 3) := dk_132 3 1 (dk_at dksX0_winning_1 16 rfl rfl)
theorem dX0_winning_41 : decode cX0_winning 41 = .ok (.goto (-32), 3) := dk_167 255 224 (dk_at dksX0_winning_1 19 rfl rfl)
theorem dX0_winning_44 : decode cX0_winning 44 = .ok (.iinc 2 1, 3) := dk_132 2 1 (dk_at dksX0_winning_2 0 rfl rfl)
theorem dX0_winning_47 : decode cX0_winning 47 = .ok (.goto (-45), 3) := dk_167 255 211 (dk_at dksX0_winning_2 3 rfl rfl)
theorem dX0_winning_50 : decode cX0_winning 50 = .ok (.iconst (-1), 1) := dk_2 (dk_at dksX0_winning_2 6 rfl rfl)
theorem dX0_winning_51 : decode cX0_winning 51 = .ok (.ireturn, 1) := dk_172 (dk_at dksX0_winning_2 7 rfl rfl)
abbrev cX0_far : ByteArray := prog_1_method_63_code
def yX0_far : MethodName := ⟨RX0, "far", "(II)I"⟩
def dkwX0_far_1 : List UInt8 := [172]
abbrev dktX0_far_1 : List UInt8 := dkwX0_far_1 ++ []
def dkwX0_far_0 : List UInt8 := [26, 61, 3, 62, 29, 27, 162, 0, 14, 28, 16, 7, 108, 61, 132, 3, 1, 167, 255, 243, 28, 16, 7, 112]
abbrev dktX0_far_0 : List UInt8 := dkwX0_far_0 ++ dktX0_far_1
theorem dksX0_far_0 : cX0_far.data.toList.drop 0 = dktX0_far_0 := by decide +kernel
theorem dksX0_far_1 : cX0_far.data.toList.drop 24 = dktX0_far_1 := dk_seg dksX0_far_0 24 rfl rfl
theorem dX0_far_0 : decode cX0_far 0 = .ok (.iload_n 0, 1) := dk_26 (dk_at dksX0_far_0 0 rfl rfl)
theorem dX0_far_1 : decode cX0_far 1 = .ok (.istore_n 2, 1) := dk_61 (dk_at dksX0_far_0 1 rfl rfl)
theorem dX0_far_2 : decode cX0_far 2 = .ok (.iconst 0, 1) := dk_3 (dk_at dksX0_far_0 2 rfl rfl)
theorem dX0_far_3 : decode cX0_far 3 = .ok (.istore_n 3, 1) := dk_62 (dk_at dksX0_far_0 3 rfl rfl)
theorem dX0_far_4 : decode cX0_far 4 = .ok (.iload_n 3, 1) := dk_29 (dk_at dksX0_far_0 4 rfl rfl)
theorem dX0_far_5 : decode cX0_far 5 = .ok (.iload_n 1, 1) := dk_27 (dk_at dksX0_far_0 5 rfl rfl)
theorem dX0_far_6 : decode cX0_far 6 = .ok (.if_icmp .ge 14, 3) := dk_162 0 14 (dk_at dksX0_far_0 6 rfl rfl)
theorem dX0_far_9 : decode cX0_far 9 = .ok (.iload_n 2, 1) := dk_28 (dk_at dksX0_far_0 9 rfl rfl)
theorem dX0_far_10 : decode cX0_far 10 = .ok (.bipush 7, 2) := dk_16 7 (dk_at dksX0_far_0 10 rfl rfl)
theorem dX0_far_12 : decode cX0_far 12 = .ok (.idiv, 1) := dk_108 (dk_at dksX0_far_0 12 rfl rfl)
theorem dX0_far_13 : decode cX0_far 13 = .ok (.istore_n 2, 1) := dk_61 (dk_at dksX0_far_0 13 rfl rfl)
theorem dX0_far_14 : decode cX0_far 14 = .ok (.iinc 3 1, 3) := dk_132 3 1 (dk_at dksX0_far_0 14 rfl rfl)
theorem dX0_far_17 : decode cX0_far 17 = .ok (.goto (-13), 3) := dk_167 255 243 (dk_at dksX0_far_0 17 rfl rfl)
theorem dX0_far_20 : decode cX0_far 20 = .ok (.iload_n 2, 1) := dk_28 (dk_at dksX0_far_0 20 rfl rfl)
theorem dX0_far_21 : decode cX0_far 21 = .ok (.bipush 7, 2) := dk_16 7 (dk_at dksX0_far_0 21 rfl rfl)
theorem dX0_far_23 : decode cX0_far 23 = .ok (.irem, 1) := dk_112 (dk_at dksX0_far_0 23 rfl rfl)
theorem dX0_far_24 : decode cX0_far 24 = .ok (.ireturn, 1) := dk_172 (dk_at dksX0_far_1 0 rfl rfl)
abbrev cX0_bitten : ByteArray := prog_1_method_62_code
def yX0_bitten : MethodName := ⟨RX0, "bitten", "(III)I"⟩
def dkwX0_bitten_2 : List UInt8 := [21, 5, 16, 7, 104, 54, 5, 21, 4, 16, 7, 108, 54, 4, 132, 6, 1, 167, 255, 203, 29, 172]
abbrev dktX0_bitten_2 : List UInt8 := dkwX0_bitten_2 ++ []
def dkwX0_bitten_1 : List UInt8 := [29, 21, 5, 21, 6, 27, 162, 0, 8, 21, 7, 167, 0, 9, 21, 7, 28, 184, 0, 65, 104, 96, 62]
abbrev dktX0_bitten_1 : List UInt8 := dkwX0_bitten_1 ++ dktX0_bitten_2
def dkwX0_bitten_0 : List UInt8 := [3, 62, 26, 54, 4, 4, 54, 5, 3, 54, 6, 21, 6, 8, 162, 0, 53, 21, 4, 16, 7, 112, 54, 7]
abbrev dktX0_bitten_0 : List UInt8 := dkwX0_bitten_0 ++ dktX0_bitten_1
theorem dksX0_bitten_0 : cX0_bitten.data.toList.drop 0 = dktX0_bitten_0 := by decide +kernel
theorem dksX0_bitten_1 : cX0_bitten.data.toList.drop 24 = dktX0_bitten_1 := dk_seg dksX0_bitten_0 24 rfl rfl
theorem dksX0_bitten_2 : cX0_bitten.data.toList.drop 47 = dktX0_bitten_2 := dk_seg dksX0_bitten_1 23 rfl rfl
theorem dX0_bitten_0 : decode cX0_bitten 0 = .ok (.iconst 0, 1) := dk_3 (dk_at dksX0_bitten_0 0 rfl rfl)
theorem dX0_bitten_1 : decode cX0_bitten 1 = .ok (.istore_n 3, 1) := dk_62 (dk_at dksX0_bitten_0 1 rfl rfl)
theorem dX0_bitten_2 : decode cX0_bitten 2 = .ok (.iload_n 0, 1) := dk_26 (dk_at dksX0_bitten_0 2 rfl rfl)
theorem dX0_bitten_3 : decode cX0_bitten 3 = .ok (.istore 4, 2) := dk_54 4 (dk_at dksX0_bitten_0 3 rfl rfl)
theorem dX0_bitten_5 : decode cX0_bitten 5 = .ok (.iconst 1, 1) := dk_4 (dk_at dksX0_bitten_0 5 rfl rfl)
theorem dX0_bitten_6 : decode cX0_bitten 6 = .ok (.istore 5, 2) := dk_54 5 (dk_at dksX0_bitten_0 6 rfl rfl)
theorem dX0_bitten_8 : decode cX0_bitten 8 = .ok (.iconst 0, 1) := dk_3 (dk_at dksX0_bitten_0 8 rfl rfl)
theorem dX0_bitten_9 : decode cX0_bitten 9 = .ok (.istore 6, 2) := dk_54 6 (dk_at dksX0_bitten_0 9 rfl rfl)
theorem dX0_bitten_11 : decode cX0_bitten 11 = .ok (.iload 6, 2) := dk_21 6 (dk_at dksX0_bitten_0 11 rfl rfl)
theorem dX0_bitten_13 : decode cX0_bitten 13 = .ok (.iconst 5, 1) := dk_8 (dk_at dksX0_bitten_0 13 rfl rfl)
theorem dX0_bitten_14 : decode cX0_bitten 14 = .ok (.if_icmp .ge 53, 3) := dk_162 0 53 (dk_at dksX0_bitten_0 14 rfl rfl)
theorem dX0_bitten_17 : decode cX0_bitten 17 = .ok (.iload 4, 2) := dk_21 4 (dk_at dksX0_bitten_0 17 rfl rfl)
theorem dX0_bitten_19 : decode cX0_bitten 19 = .ok (.bipush 7, 2) := dk_16 7 (dk_at dksX0_bitten_0 19 rfl rfl)
theorem dX0_bitten_21 : decode cX0_bitten 21 = .ok (.irem, 1) := dk_112 (dk_at dksX0_bitten_0 21 rfl rfl)
theorem dX0_bitten_22 : decode cX0_bitten 22 = .ok (.istore 7, 2) := dk_54 7 (dk_at dksX0_bitten_0 22 rfl rfl)
theorem dX0_bitten_24 : decode cX0_bitten 24 = .ok (.iload_n 3, 1) := dk_29 (dk_at dksX0_bitten_1 0 rfl rfl)
theorem dX0_bitten_25 : decode cX0_bitten 25 = .ok (.iload 5, 2) := dk_21 5 (dk_at dksX0_bitten_1 1 rfl rfl)
theorem dX0_bitten_27 : decode cX0_bitten 27 = .ok (.iload 6, 2) := dk_21 6 (dk_at dksX0_bitten_1 3 rfl rfl)
theorem dX0_bitten_29 : decode cX0_bitten 29 = .ok (.iload_n 1, 1) := dk_27 (dk_at dksX0_bitten_1 5 rfl rfl)
theorem dX0_bitten_30 : decode cX0_bitten 30 = .ok (.if_icmp .ge 8, 3) := dk_162 0 8 (dk_at dksX0_bitten_1 6 rfl rfl)
theorem dX0_bitten_33 : decode cX0_bitten 33 = .ok (.iload 7, 2) := dk_21 7 (dk_at dksX0_bitten_1 9 rfl rfl)
theorem dX0_bitten_35 : decode cX0_bitten 35 = .ok (.goto 9, 3) := dk_167 0 9 (dk_at dksX0_bitten_1 11 rfl rfl)
theorem dX0_bitten_38 : decode cX0_bitten 38 = .ok (.iload 7, 2) := dk_21 7 (dk_at dksX0_bitten_1 14 rfl rfl)
theorem dX0_bitten_40 : decode cX0_bitten 40 = .ok (.iload_n 2, 1) := dk_28 (dk_at dksX0_bitten_1 16 rfl rfl)
theorem dX0_bitten_41 : decode cX0_bitten 41 = .ok (.invokestatic 65, 3) := dk_184 0 65 (dk_at dksX0_bitten_1 17 rfl rfl)
theorem dX0_bitten_44 : decode cX0_bitten 44 = .ok (.imul, 1) := dk_104 (dk_at dksX0_bitten_1 20 rfl rfl)
theorem dX0_bitten_45 : decode cX0_bitten 45 = .ok (.iadd, 1) := dk_96 (dk_at dksX0_bitten_1 21 rfl rfl)
theorem dX0_bitten_46 : decode cX0_bitten 46 = .ok (.istore_n 3, 1) := dk_62 (dk_at dksX0_bitten_1 22 rfl rfl)
theorem dX0_bitten_47 : decode cX0_bitten 47 = .ok (.iload 5, 2) := dk_21 5 (dk_at dksX0_bitten_2 0 rfl rfl)
theorem dX0_bitten_49 : decode cX0_bitten 49 = .ok (.bipush 7, 2) := dk_16 7 (dk_at dksX0_bitten_2 2 rfl rfl)
theorem dX0_bitten_51 : decode cX0_bitten 51 = .ok (.imul, 1) := dk_104 (dk_at dksX0_bitten_2 4 rfl rfl)
theorem dX0_bitten_52 : decode cX0_bitten 52 = .ok (.istore 5, 2) := dk_54 5 (dk_at dksX0_bitten_2 5 rfl rfl)
theorem dX0_bitten_54 : decode cX0_bitten 54 = .ok (.iload 4, 2) := dk_21 4 (dk_at dksX0_bitten_2 7 rfl rfl)
theorem dX0_bitten_56 : decode cX0_bitten 56 = .ok (.bipush 7, 2) := dk_16 7 (dk_at dksX0_bitten_2 9 rfl rfl)
theorem dX0_bitten_58 : decode cX0_bitten 58 = .ok (.idiv, 1) := dk_108 (dk_at dksX0_bitten_2 11 rfl rfl)
theorem dX0_bitten_59 : decode cX0_bitten 59 = .ok (.istore 4, 2) := dk_54 4 (dk_at dksX0_bitten_2 12 rfl rfl)
theorem dX0_bitten_61 : decode cX0_bitten 61 = .ok (.iinc 6 1, 3) := dk_132 6 1 (dk_at dksX0_bitten_2 14 rfl rfl)
theorem dX0_bitten_64 : decode cX0_bitten 64 = .ok (.goto (-53), 3) := dk_167 255 203 (dk_at dksX0_bitten_2 17 rfl rfl)
theorem dX0_bitten_67 : decode cX0_bitten 67 = .ok (.iload_n 3, 1) := dk_29 (dk_at dksX0_bitten_2 20 rfl rfl)
theorem dX0_bitten_68 : decode cX0_bitten 68 = .ok (.ireturn, 1) := dk_172 (dk_at dksX0_bitten_2 21 rfl rfl)
abbrev cX0_lost : ByteArray := prog_1_method_65_code
def yX0_lost : MethodName := ⟨RX0, "lost", "(I)Z"⟩
def dkwX0_lost_2 : List UInt8 := [167, 0, 4, 3, 172]
abbrev dktX0_lost_2 : List UInt8 := dkwX0_lost_2 ++ []
def dkwX0_lost_1 : List UInt8 := [182, 1, 121, 2, 160, 0, 7, 4, 167, 0, 4, 5, 79, 42, 180, 0, 62, 27, 46, 4, 160, 0, 7, 4]
abbrev dktX0_lost_1 : List UInt8 := dkwX0_lost_1 ++ dktX0_lost_2
def dkwX0_lost_0 : List UInt8 := [27, 154, 0, 5, 3, 172, 42, 180, 0, 62, 27, 46, 154, 0, 23, 42, 180, 0, 62, 27, 42, 27]
abbrev dktX0_lost_0 : List UInt8 := dkwX0_lost_0 ++ dktX0_lost_1
theorem dksX0_lost_0 : cX0_lost.data.toList.drop 0 = dktX0_lost_0 := by decide +kernel
theorem dksX0_lost_1 : cX0_lost.data.toList.drop 22 = dktX0_lost_1 := dk_seg dksX0_lost_0 22 rfl rfl
theorem dksX0_lost_2 : cX0_lost.data.toList.drop 46 = dktX0_lost_2 := dk_seg dksX0_lost_1 24 rfl rfl
theorem dX0_lost_0 : decode cX0_lost 0 = .ok (.iload_n 1, 1) := dk_27 (dk_at dksX0_lost_0 0 rfl rfl)
theorem dX0_lost_1 : decode cX0_lost 1 = .ok (.ifCond .ne 5, 3) := dk_154 0 5 (dk_at dksX0_lost_0 1 rfl rfl)
theorem dX0_lost_4 : decode cX0_lost 4 = .ok (.iconst 0, 1) := dk_3 (dk_at dksX0_lost_0 4 rfl rfl)
theorem dX0_lost_5 : decode cX0_lost 5 = .ok (.ireturn, 1) := dk_172 (dk_at dksX0_lost_0 5 rfl rfl)
theorem dX0_lost_6 : decode cX0_lost 6 = .ok (.aload_n 0, 1) := dk_42 (dk_at dksX0_lost_0 6 rfl rfl)
theorem dX0_lost_7 : decode cX0_lost 7 = .ok (.getfield 62, 3) := dk_180 0 62 (dk_at dksX0_lost_0 7 rfl rfl)
theorem dX0_lost_10 : decode cX0_lost 10 = .ok (.iload_n 1, 1) := dk_27 (dk_at dksX0_lost_0 10 rfl rfl)
theorem dX0_lost_11 : decode cX0_lost 11 = .ok (.iaload, 1) := dk_46 (dk_at dksX0_lost_0 11 rfl rfl)
theorem dX0_lost_12 : decode cX0_lost 12 = .ok (.ifCond .ne 23, 3) := dk_154 0 23 (dk_at dksX0_lost_0 12 rfl rfl)
theorem dX0_lost_15 : decode cX0_lost 15 = .ok (.aload_n 0, 1) := dk_42 (dk_at dksX0_lost_0 15 rfl rfl)
theorem dX0_lost_16 : decode cX0_lost 16 = .ok (.getfield 62, 3) := dk_180 0 62 (dk_at dksX0_lost_0 16 rfl rfl)
theorem dX0_lost_19 : decode cX0_lost 19 = .ok (.iload_n 1, 1) := dk_27 (dk_at dksX0_lost_0 19 rfl rfl)
theorem dX0_lost_20 : decode cX0_lost 20 = .ok (.aload_n 0, 1) := dk_42 (dk_at dksX0_lost_0 20 rfl rfl)
theorem dX0_lost_21 : decode cX0_lost 21 = .ok (.iload_n 1, 1) := dk_27 (dk_at dksX0_lost_0 21 rfl rfl)
theorem dX0_lost_22 : decode cX0_lost 22 = .ok (.invokevirtual 377, 3) := dk_182 1 121 (dk_at dksX0_lost_1 0 rfl rfl)
theorem dX0_lost_25 : decode cX0_lost 25 = .ok (.iconst (-1), 1) := dk_2 (dk_at dksX0_lost_1 3 rfl rfl)
theorem dX0_lost_26 : decode cX0_lost 26 = .ok (.if_icmp .ne 7, 3) := dk_160 0 7 (dk_at dksX0_lost_1 4 rfl rfl)
theorem dX0_lost_29 : decode cX0_lost 29 = .ok (.iconst 1, 1) := dk_4 (dk_at dksX0_lost_1 7 rfl rfl)
theorem dX0_lost_30 : decode cX0_lost 30 = .ok (.goto 4, 3) := dk_167 0 4 (dk_at dksX0_lost_1 8 rfl rfl)
theorem dX0_lost_33 : decode cX0_lost 33 = .ok (.iconst 2, 1) := dk_5 (dk_at dksX0_lost_1 11 rfl rfl)
theorem dX0_lost_34 : decode cX0_lost 34 = .ok (.iastore, 1) := dk_79 (dk_at dksX0_lost_1 12 rfl rfl)
theorem dX0_lost_35 : decode cX0_lost 35 = .ok (.aload_n 0, 1) := dk_42 (dk_at dksX0_lost_1 13 rfl rfl)
theorem dX0_lost_36 : decode cX0_lost 36 = .ok (.getfield 62, 3) := dk_180 0 62 (dk_at dksX0_lost_1 14 rfl rfl)
theorem dX0_lost_39 : decode cX0_lost 39 = .ok (.iload_n 1, 1) := dk_27 (dk_at dksX0_lost_1 17 rfl rfl)
theorem dX0_lost_40 : decode cX0_lost 40 = .ok (.iaload, 1) := dk_46 (dk_at dksX0_lost_1 18 rfl rfl)
theorem dX0_lost_41 : decode cX0_lost 41 = .ok (.iconst 1, 1) := dk_4 (dk_at dksX0_lost_1 19 rfl rfl)
theorem dX0_lost_42 : decode cX0_lost 42 = .ok (.if_icmp .ne 7, 3) := dk_160 0 7 (dk_at dksX0_lost_1 20 rfl rfl)
theorem dX0_lost_45 : decode cX0_lost 45 = .ok (.iconst 1, 1) := dk_4 (dk_at dksX0_lost_1 23 rfl rfl)
theorem dX0_lost_46 : decode cX0_lost 46 = .ok (.goto 4, 3) := dk_167 0 4 (dk_at dksX0_lost_2 0 rfl rfl)
theorem dX0_lost_49 : decode cX0_lost 49 = .ok (.iconst 0, 1) := dk_3 (dk_at dksX0_lost_2 3 rfl rfl)
theorem dX0_lost_50 : decode cX0_lost 50 = .ok (.ireturn, 1) := dk_172 (dk_at dksX0_lost_2 4 rfl rfl)
abbrev cX0_image : ByteArray := prog_1_method_67_code
def yX0_image : MethodName := ⟨RX0, "image", "(Z)Z"⟩
def dkwX0_image_2 : List UInt8 := [42, 182, 0, 109, 87, 42, 4, 181, 1, 124, 4, 172]
abbrev dktX0_image_2 : List UInt8 := dkwX0_image_2 ++ []
def dkwX0_image_1 : List UInt8 := [180, 0, 20, 182, 1, 127, 167, 0, 14, 42, 180, 0, 20, 42, 180, 0, 24, 182, 1, 127, 27, 154, 0, 8]
abbrev dktX0_image_1 : List UInt8 := dkwX0_image_1 ++ dktX0_image_2
def dkwX0_image_0 : List UInt8 := [27, 154, 0, 12, 42, 180, 1, 124, 154, 0, 5, 3, 172, 27, 153, 0, 17, 42, 180, 0, 24, 42]
abbrev dktX0_image_0 : List UInt8 := dkwX0_image_0 ++ dktX0_image_1
theorem dksX0_image_0 : cX0_image.data.toList.drop 0 = dktX0_image_0 := by decide +kernel
theorem dksX0_image_1 : cX0_image.data.toList.drop 22 = dktX0_image_1 := dk_seg dksX0_image_0 22 rfl rfl
theorem dksX0_image_2 : cX0_image.data.toList.drop 46 = dktX0_image_2 := dk_seg dksX0_image_1 24 rfl rfl
theorem dX0_image_0 : decode cX0_image 0 = .ok (.iload_n 1, 1) := dk_27 (dk_at dksX0_image_0 0 rfl rfl)
theorem dX0_image_1 : decode cX0_image 1 = .ok (.ifCond .ne 12, 3) := dk_154 0 12 (dk_at dksX0_image_0 1 rfl rfl)
theorem dX0_image_4 : decode cX0_image 4 = .ok (.aload_n 0, 1) := dk_42 (dk_at dksX0_image_0 4 rfl rfl)
theorem dX0_image_5 : decode cX0_image 5 = .ok (.getfield 380, 3) := dk_180 1 124 (dk_at dksX0_image_0 5 rfl rfl)
theorem dX0_image_8 : decode cX0_image 8 = .ok (.ifCond .ne 5, 3) := dk_154 0 5 (dk_at dksX0_image_0 8 rfl rfl)
theorem dX0_image_11 : decode cX0_image 11 = .ok (.iconst 0, 1) := dk_3 (dk_at dksX0_image_0 11 rfl rfl)
theorem dX0_image_12 : decode cX0_image 12 = .ok (.ireturn, 1) := dk_172 (dk_at dksX0_image_0 12 rfl rfl)
theorem dX0_image_13 : decode cX0_image 13 = .ok (.iload_n 1, 1) := dk_27 (dk_at dksX0_image_0 13 rfl rfl)
theorem dX0_image_14 : decode cX0_image 14 = .ok (.ifCond .eq 17, 3) := dk_153 0 17 (dk_at dksX0_image_0 14 rfl rfl)
theorem dX0_image_17 : decode cX0_image 17 = .ok (.aload_n 0, 1) := dk_42 (dk_at dksX0_image_0 17 rfl rfl)
theorem dX0_image_18 : decode cX0_image 18 = .ok (.getfield 24, 3) := dk_180 0 24 (dk_at dksX0_image_0 18 rfl rfl)
theorem dX0_image_21 : decode cX0_image 21 = .ok (.aload_n 0, 1) := dk_42 (dk_at dksX0_image_0 21 rfl rfl)
theorem dX0_image_22 : decode cX0_image 22 = .ok (.getfield 20, 3) := dk_180 0 20 (dk_at dksX0_image_1 0 rfl rfl)
theorem dX0_image_25 : decode cX0_image 25 = .ok (.invokevirtual 383, 3) := dk_182 1 127 (dk_at dksX0_image_1 3 rfl rfl)
theorem dX0_image_28 : decode cX0_image 28 = .ok (.goto 14, 3) := dk_167 0 14 (dk_at dksX0_image_1 6 rfl rfl)
theorem dX0_image_31 : decode cX0_image 31 = .ok (.aload_n 0, 1) := dk_42 (dk_at dksX0_image_1 9 rfl rfl)
theorem dX0_image_32 : decode cX0_image 32 = .ok (.getfield 20, 3) := dk_180 0 20 (dk_at dksX0_image_1 10 rfl rfl)
theorem dX0_image_35 : decode cX0_image 35 = .ok (.aload_n 0, 1) := dk_42 (dk_at dksX0_image_1 13 rfl rfl)
theorem dX0_image_36 : decode cX0_image 36 = .ok (.getfield 24, 3) := dk_180 0 24 (dk_at dksX0_image_1 14 rfl rfl)
theorem dX0_image_39 : decode cX0_image 39 = .ok (.invokevirtual 383, 3) := dk_182 1 127 (dk_at dksX0_image_1 17 rfl rfl)
theorem dX0_image_42 : decode cX0_image 42 = .ok (.iload_n 1, 1) := dk_27 (dk_at dksX0_image_1 20 rfl rfl)
theorem dX0_image_43 : decode cX0_image 43 = .ok (.ifCond .ne 8, 3) := dk_154 0 8 (dk_at dksX0_image_1 21 rfl rfl)
theorem dX0_image_46 : decode cX0_image 46 = .ok (.aload_n 0, 1) := dk_42 (dk_at dksX0_image_2 0 rfl rfl)
theorem dX0_image_47 : decode cX0_image 47 = .ok (.invokevirtual 109, 3) := dk_182 0 109 (dk_at dksX0_image_2 1 rfl rfl)
theorem dX0_image_50 : decode cX0_image 50 = .ok (.pop, 1) := dk_87 (dk_at dksX0_image_2 4 rfl rfl)
theorem dX0_image_51 : decode cX0_image 51 = .ok (.aload_n 0, 1) := dk_42 (dk_at dksX0_image_2 5 rfl rfl)
theorem dX0_image_52 : decode cX0_image 52 = .ok (.iconst 1, 1) := dk_4 (dk_at dksX0_image_2 6 rfl rfl)
theorem dX0_image_53 : decode cX0_image 53 = .ok (.putfield 380, 3) := dk_181 1 124 (dk_at dksX0_image_2 7 rfl rfl)
theorem dX0_image_56 : decode cX0_image 56 = .ok (.iconst 1, 1) := dk_4 (dk_at dksX0_image_2 10 rfl rfl)
theorem dX0_image_57 : decode cX0_image 57 = .ok (.ireturn, 1) := dk_172 (dk_at dksX0_image_2 11 rfl rfl)
abbrev cX0_look : ByteArray := prog_1_method_68_code
def yX0_look : MethodName := ⟨RX0, "look", "(I)I"⟩
def dkwX0_look_7 : List UInt8 := [172]
abbrev dktX0_look_7 : List UInt8 := dkwX0_look_7 ++ []
def dkwX0_look_6 : List UInt8 := [180, 0, 20, 180, 0, 113, 182, 0, 97, 172, 42, 180, 0, 20, 180, 0, 126, 172, 42, 180, 0, 144, 172, 2]
abbrev dktX0_look_6 : List UInt8 := dkwX0_look_6 ++ dktX0_look_7
def dkwX0_look_5 : List UInt8 := [42, 180, 0, 20, 180, 0, 94, 182, 0, 97, 172, 42, 180, 0, 20, 180, 0, 106, 182, 0, 97, 172, 42]
abbrev dktX0_look_5 : List UInt8 := dkwX0_look_5 ++ dktX0_look_6
def dkwX0_look_4 : List UInt8 := [42, 180, 0, 20, 182, 1, 5, 172, 42, 180, 0, 20, 180, 0, 249, 172, 42, 180, 0, 20, 180, 0, 158, 172]
abbrev dktX0_look_4 : List UInt8 := dkwX0_look_4 ++ dktX0_look_5
def dkwX0_look_3 : List UInt8 := [42, 180, 0, 20, 180, 1, 2, 172, 42, 180, 0, 20, 180, 1, 133, 172, 42, 180, 0, 20, 180, 0, 223, 172]
abbrev dktX0_look_3 : List UInt8 := dkwX0_look_3 ++ dktX0_look_4
def dkwX0_look_2 : List UInt8 := [42, 180, 0, 20, 180, 0, 151, 172, 42, 180, 0, 20, 180, 0, 190, 172, 42, 180, 0, 20, 180, 1, 130, 172]
abbrev dktX0_look_2 : List UInt8 := dkwX0_look_2 ++ dktX0_look_3
def dkwX0_look_1 : List UInt8 := [170, 0, 0, 0, 0, 0, 189, 0, 0, 0, 0, 0, 0, 0, 13, 0, 0, 0, 71, 0, 0, 0, 79, 0, 0, 0, 87, 0, 0, 0, 95, 0, 0, 0, 103, 0, 0, 0, 111, 0, 0, 0, 119, 0, 0, 0, 127, 0, 0, 0, 135, 0, 0, 0, 143, 0, 0, 0, 154, 0, 0, 0, 165, 0, 0, 0, 176, 0, 0, 0, 184]
abbrev dktX0_look_1 : List UInt8 := dkwX0_look_1 ++ dktX0_look_2
def dkwX0_look_0 : List UInt8 := [27]
abbrev dktX0_look_0 : List UInt8 := dkwX0_look_0 ++ dktX0_look_1
theorem dksX0_look_0 : cX0_look.data.toList.drop 0 = dktX0_look_0 := by decide +kernel
theorem dksX0_look_1 : cX0_look.data.toList.drop 1 = dktX0_look_1 := dk_seg dksX0_look_0 1 rfl rfl
theorem dksX0_look_2 : cX0_look.data.toList.drop 72 = dktX0_look_2 := dk_seg dksX0_look_1 71 rfl rfl
theorem dksX0_look_3 : cX0_look.data.toList.drop 96 = dktX0_look_3 := dk_seg dksX0_look_2 24 rfl rfl
theorem dksX0_look_4 : cX0_look.data.toList.drop 120 = dktX0_look_4 := dk_seg dksX0_look_3 24 rfl rfl
theorem dksX0_look_5 : cX0_look.data.toList.drop 144 = dktX0_look_5 := dk_seg dksX0_look_4 24 rfl rfl
theorem dksX0_look_6 : cX0_look.data.toList.drop 167 = dktX0_look_6 := dk_seg dksX0_look_5 23 rfl rfl
theorem dksX0_look_7 : cX0_look.data.toList.drop 191 = dktX0_look_7 := dk_seg dksX0_look_6 24 rfl rfl
theorem dX0_look_0 : decode cX0_look 0 = .ok (.iload_n 1, 1) := dk_27 (dk_at dksX0_look_0 0 rfl rfl)
theorem dX0_look_1 : decode cX0_look 1 = .ok (.tableswitch 189 0 13 #[71, 79, 87, 95, 103, 111, 119, 127, 135, 143, 154, 165, 176, 184], 71) := by decide +kernel
theorem dX0_look_72 : decode cX0_look 72 = .ok (.aload_n 0, 1) := dk_42 (dk_at dksX0_look_2 0 rfl rfl)
theorem dX0_look_73 : decode cX0_look 73 = .ok (.getfield 20, 3) := dk_180 0 20 (dk_at dksX0_look_2 1 rfl rfl)
theorem dX0_look_76 : decode cX0_look 76 = .ok (.getfield 151, 3) := dk_180 0 151 (dk_at dksX0_look_2 4 rfl rfl)
theorem dX0_look_79 : decode cX0_look 79 = .ok (.ireturn, 1) := dk_172 (dk_at dksX0_look_2 7 rfl rfl)
theorem dX0_look_80 : decode cX0_look 80 = .ok (.aload_n 0, 1) := dk_42 (dk_at dksX0_look_2 8 rfl rfl)
theorem dX0_look_81 : decode cX0_look 81 = .ok (.getfield 20, 3) := dk_180 0 20 (dk_at dksX0_look_2 9 rfl rfl)
theorem dX0_look_84 : decode cX0_look 84 = .ok (.getfield 190, 3) := dk_180 0 190 (dk_at dksX0_look_2 12 rfl rfl)
theorem dX0_look_87 : decode cX0_look 87 = .ok (.ireturn, 1) := dk_172 (dk_at dksX0_look_2 15 rfl rfl)
theorem dX0_look_88 : decode cX0_look 88 = .ok (.aload_n 0, 1) := dk_42 (dk_at dksX0_look_2 16 rfl rfl)
theorem dX0_look_89 : decode cX0_look 89 = .ok (.getfield 20, 3) := dk_180 0 20 (dk_at dksX0_look_2 17 rfl rfl)
theorem dX0_look_92 : decode cX0_look 92 = .ok (.getfield 386, 3) := dk_180 1 130 (dk_at dksX0_look_2 20 rfl rfl)
theorem dX0_look_95 : decode cX0_look 95 = .ok (.ireturn, 1) := dk_172 (dk_at dksX0_look_2 23 rfl rfl)
theorem dX0_look_96 : decode cX0_look 96 = .ok (.aload_n 0, 1) := dk_42 (dk_at dksX0_look_3 0 rfl rfl)
theorem dX0_look_97 : decode cX0_look 97 = .ok (.getfield 20, 3) := dk_180 0 20 (dk_at dksX0_look_3 1 rfl rfl)
theorem dX0_look_100 : decode cX0_look 100 = .ok (.getfield 258, 3) := dk_180 1 2 (dk_at dksX0_look_3 4 rfl rfl)
theorem dX0_look_103 : decode cX0_look 103 = .ok (.ireturn, 1) := dk_172 (dk_at dksX0_look_3 7 rfl rfl)
theorem dX0_look_104 : decode cX0_look 104 = .ok (.aload_n 0, 1) := dk_42 (dk_at dksX0_look_3 8 rfl rfl)
theorem dX0_look_105 : decode cX0_look 105 = .ok (.getfield 20, 3) := dk_180 0 20 (dk_at dksX0_look_3 9 rfl rfl)
theorem dX0_look_108 : decode cX0_look 108 = .ok (.getfield 389, 3) := dk_180 1 133 (dk_at dksX0_look_3 12 rfl rfl)
theorem dX0_look_111 : decode cX0_look 111 = .ok (.ireturn, 1) := dk_172 (dk_at dksX0_look_3 15 rfl rfl)
theorem dX0_look_112 : decode cX0_look 112 = .ok (.aload_n 0, 1) := dk_42 (dk_at dksX0_look_3 16 rfl rfl)
theorem dX0_look_113 : decode cX0_look 113 = .ok (.getfield 20, 3) := dk_180 0 20 (dk_at dksX0_look_3 17 rfl rfl)
theorem dX0_look_116 : decode cX0_look 116 = .ok (.getfield 223, 3) := dk_180 0 223 (dk_at dksX0_look_3 20 rfl rfl)
theorem dX0_look_119 : decode cX0_look 119 = .ok (.ireturn, 1) := dk_172 (dk_at dksX0_look_3 23 rfl rfl)
theorem dX0_look_120 : decode cX0_look 120 = .ok (.aload_n 0, 1) := dk_42 (dk_at dksX0_look_4 0 rfl rfl)
theorem dX0_look_121 : decode cX0_look 121 = .ok (.getfield 20, 3) := dk_180 0 20 (dk_at dksX0_look_4 1 rfl rfl)
theorem dX0_look_124 : decode cX0_look 124 = .ok (.invokevirtual 261, 3) := dk_182 1 5 (dk_at dksX0_look_4 4 rfl rfl)
theorem dX0_look_127 : decode cX0_look 127 = .ok (.ireturn, 1) := dk_172 (dk_at dksX0_look_4 7 rfl rfl)
theorem dX0_look_128 : decode cX0_look 128 = .ok (.aload_n 0, 1) := dk_42 (dk_at dksX0_look_4 8 rfl rfl)
theorem dX0_look_129 : decode cX0_look 129 = .ok (.getfield 20, 3) := dk_180 0 20 (dk_at dksX0_look_4 9 rfl rfl)
theorem dX0_look_132 : decode cX0_look 132 = .ok (.getfield 249, 3) := dk_180 0 249 (dk_at dksX0_look_4 12 rfl rfl)
theorem dX0_look_135 : decode cX0_look 135 = .ok (.ireturn, 1) := dk_172 (dk_at dksX0_look_4 15 rfl rfl)
theorem dX0_look_136 : decode cX0_look 136 = .ok (.aload_n 0, 1) := dk_42 (dk_at dksX0_look_4 16 rfl rfl)
theorem dX0_look_137 : decode cX0_look 137 = .ok (.getfield 20, 3) := dk_180 0 20 (dk_at dksX0_look_4 17 rfl rfl)
theorem dX0_look_140 : decode cX0_look 140 = .ok (.getfield 158, 3) := dk_180 0 158 (dk_at dksX0_look_4 20 rfl rfl)
theorem dX0_look_143 : decode cX0_look 143 = .ok (.ireturn, 1) := dk_172 (dk_at dksX0_look_4 23 rfl rfl)
theorem dX0_look_144 : decode cX0_look 144 = .ok (.aload_n 0, 1) := dk_42 (dk_at dksX0_look_5 0 rfl rfl)
theorem dX0_look_145 : decode cX0_look 145 = .ok (.getfield 20, 3) := dk_180 0 20 (dk_at dksX0_look_5 1 rfl rfl)
theorem dX0_look_148 : decode cX0_look 148 = .ok (.getfield 94, 3) := dk_180 0 94 (dk_at dksX0_look_5 4 rfl rfl)
theorem dX0_look_151 : decode cX0_look 151 = .ok (.invokevirtual 97, 3) := dk_182 0 97 (dk_at dksX0_look_5 7 rfl rfl)
theorem dX0_look_154 : decode cX0_look 154 = .ok (.ireturn, 1) := dk_172 (dk_at dksX0_look_5 10 rfl rfl)
theorem dX0_look_155 : decode cX0_look 155 = .ok (.aload_n 0, 1) := dk_42 (dk_at dksX0_look_5 11 rfl rfl)
theorem dX0_look_156 : decode cX0_look 156 = .ok (.getfield 20, 3) := dk_180 0 20 (dk_at dksX0_look_5 12 rfl rfl)
theorem dX0_look_159 : decode cX0_look 159 = .ok (.getfield 106, 3) := dk_180 0 106 (dk_at dksX0_look_5 15 rfl rfl)
theorem dX0_look_162 : decode cX0_look 162 = .ok (.invokevirtual 97, 3) := dk_182 0 97 (dk_at dksX0_look_5 18 rfl rfl)
theorem dX0_look_165 : decode cX0_look 165 = .ok (.ireturn, 1) := dk_172 (dk_at dksX0_look_5 21 rfl rfl)
theorem dX0_look_166 : decode cX0_look 166 = .ok (.aload_n 0, 1) := dk_42 (dk_at dksX0_look_5 22 rfl rfl)
theorem dX0_look_167 : decode cX0_look 167 = .ok (.getfield 20, 3) := dk_180 0 20 (dk_at dksX0_look_6 0 rfl rfl)
theorem dX0_look_170 : decode cX0_look 170 = .ok (.getfield 113, 3) := dk_180 0 113 (dk_at dksX0_look_6 3 rfl rfl)
theorem dX0_look_173 : decode cX0_look 173 = .ok (.invokevirtual 97, 3) := dk_182 0 97 (dk_at dksX0_look_6 6 rfl rfl)
theorem dX0_look_176 : decode cX0_look 176 = .ok (.ireturn, 1) := dk_172 (dk_at dksX0_look_6 9 rfl rfl)
theorem dX0_look_177 : decode cX0_look 177 = .ok (.aload_n 0, 1) := dk_42 (dk_at dksX0_look_6 10 rfl rfl)
theorem dX0_look_178 : decode cX0_look 178 = .ok (.getfield 20, 3) := dk_180 0 20 (dk_at dksX0_look_6 11 rfl rfl)
theorem dX0_look_181 : decode cX0_look 181 = .ok (.getfield 126, 3) := dk_180 0 126 (dk_at dksX0_look_6 14 rfl rfl)
theorem dX0_look_184 : decode cX0_look 184 = .ok (.ireturn, 1) := dk_172 (dk_at dksX0_look_6 17 rfl rfl)
theorem dX0_look_185 : decode cX0_look 185 = .ok (.aload_n 0, 1) := dk_42 (dk_at dksX0_look_6 18 rfl rfl)
theorem dX0_look_186 : decode cX0_look 186 = .ok (.getfield 144, 3) := dk_180 0 144 (dk_at dksX0_look_6 19 rfl rfl)
theorem dX0_look_189 : decode cX0_look 189 = .ok (.ireturn, 1) := dk_172 (dk_at dksX0_look_6 22 rfl rfl)
theorem dX0_look_190 : decode cX0_look 190 = .ok (.iconst (-1), 1) := dk_2 (dk_at dksX0_look_6 23 rfl rfl)
theorem dX0_look_191 : decode cX0_look 191 = .ok (.ireturn, 1) := dk_172 (dk_at dksX0_look_7 0 rfl rfl)
theorem q151 : (Jvm.Cond.initialized "GingerRents") ∈ lw_all := lw_g (lw_at lw_m1 1 rfl) rfl
theorem q187 : (Jvm.Cond.instantiable "GingerRents" (19 : Nat)) ∈ lw_all := lw_g (lw_at lw_m1 37 rfl) rfl
theorem q189 : (Jvm.Cond.instanceMethod ({ cls := "GingerRents", name := "<init>", desc := "()V" } : Jvm.MethodName)) ∈ lw_all := lw_g (lw_at lw_m1 39 rfl) rfl
theorem q190 : (Jvm.Cond.code ({ cls := "GingerRents", name := "<init>", desc := "()V" } : Jvm.MethodName) prog_1_method_1_code (2 : Nat) (Option.none : Option Jvm.ClassFile.FieldType)) ∈ lw_all := lw_g (lw_at lw_m1 40 rfl) rfl
theorem q191 : (Jvm.Cond.methodLink "GingerRents" (1 : Nat) ({ cls := "java/lang/Object", name := "<init>", desc := "()V" } : Jvm.MethodName)) ∈ lw_all := lw_g (lw_at lw_m1 41 rfl) rfl
theorem q194 : (Jvm.Cond.classLink "GingerRents" (17 : Nat) "GingerRents$Borough") ∈ lw_all := lw_g (lw_at lw_m1 44 rfl) rfl
theorem q196 : (Jvm.Cond.methodLink "GingerRents" (19 : Nat) ({ cls := "GingerRents$Borough", name := "<init>", desc := "()V" } : Jvm.MethodName)) ∈ lw_all := lw_g (lw_at lw_m1 46 rfl) rfl
theorem q213 : (Jvm.Cond.fieldLinkNest "GingerRents" (299 : Nat) "GingerRents$Rows" "many" "I" "GingerRents") ∈ lw_tbl := lw_at lw_m1 63 rfl
theorem q254 : (Jvm.Cond.fieldLinkNest "GingerRents" (193 : Nat) "GingerRents$House" "wall" "[I" "GingerRents") ∈ lw_tbl := lw_at lw_m1 104 rfl
theorem q257 : (Jvm.Cond.fieldLinkNest "GingerRents" (178 : Nat) "GingerRents$House" "almonds" "I" "GingerRents") ∈ lw_tbl := lw_at lw_m1 107 rfl
theorem q260 : (Jvm.Cond.fieldLinkNest "GingerRents" (181 : Nat) "GingerRents$House" "teeth" "I" "GingerRents") ∈ lw_tbl := lw_at lw_m1 110 rfl
theorem q263 : (Jvm.Cond.fieldLinkNest "GingerRents" (184 : Nat) "GingerRents$House" "hard" "I" "GingerRents") ∈ lw_tbl := lw_at lw_m1 113 rfl
theorem q267 : (Jvm.Cond.fieldLinkNest "GingerRents" (236 : Nat) "GingerRents$House" "icing" "I" "GingerRents") ∈ lw_tbl := lw_at lw_m1 117 rfl
theorem q270 : (Jvm.Cond.fieldLinkNest "GingerRents" (187 : Nat) "GingerRents$House" "lodgers" "I" "GingerRents") ∈ lw_tbl := lw_at lw_m1 120 rfl
theorem q273 : (Jvm.Cond.fieldLinkNest "GingerRents" (242 : Nat) "GingerRents$House" "age" "I" "GingerRents") ∈ lw_tbl := lw_at lw_m1 123 rfl
theorem q276 : (Jvm.Cond.fieldLinkNest "GingerRents" (239 : Nat) "GingerRents$House" "hasDoor" "Z" "GingerRents") ∈ lw_tbl := lw_at lw_m1 126 rfl
theorem q298 : (Jvm.Cond.fieldLinkNest "GingerRents" (154 : Nat) "GingerRents$Borough" "house" "[LGingerRents$House;" "GingerRents") ∈ lw_tbl := lw_at lw_m1 148 rfl
theorem q300 : (Jvm.Cond.fieldLinkNest "GingerRents" (252 : Nat) "GingerRents$Borough" "book" "[[I" "GingerRents") ∈ lw_tbl := lw_at lw_m1 150 rfl
theorem q302 : (Jvm.Cond.fieldLinkNest "GingerRents" (284 : Nat) "GingerRents$Borough" "pieces" "LGingerRents$Rows;" "GingerRents") ∈ lw_tbl := lw_at lw_m1 152 rfl
theorem q304 : (Jvm.Cond.fieldLinkNest "GingerRents" (308 : Nat) "GingerRents$Borough" "doughs" "LGingerRents$Rows;" "GingerRents") ∈ lw_tbl := lw_at lw_m1 154 rfl
theorem q306 : (Jvm.Cond.fieldLinkNest "GingerRents" (317 : Nat) "GingerRents$Borough" "marks" "LGingerRents$Rows;" "GingerRents") ∈ lw_tbl := lw_at lw_m1 156 rfl
theorem q308 : (Jvm.Cond.fieldLinkNest "GingerRents" (326 : Nat) "GingerRents$Borough" "bites" "LGingerRents$Rows;" "GingerRents") ∈ lw_tbl := lw_at lw_m1 158 rfl
theorem q310 : (Jvm.Cond.fieldLinkNest "GingerRents" (336 : Nat) "GingerRents$Borough" "crumbs" "LGingerRents$Rows;" "GingerRents") ∈ lw_tbl := lw_at lw_m1 160 rfl
theorem q312 : (Jvm.Cond.fieldLinkNest "GingerRents" (339 : Nat) "GingerRents$Borough" "loaves" "LGingerRents$Rows;" "GingerRents") ∈ lw_tbl := lw_at lw_m1 162 rfl
theorem q314 : (Jvm.Cond.fieldLinkNest "GingerRents" (352 : Nat) "GingerRents$Borough" "heirs" "LGingerRents$Rows;" "GingerRents") ∈ lw_tbl := lw_at lw_m1 164 rfl
theorem q316 : (Jvm.Cond.fieldLinkNest "GingerRents" (358 : Nat) "GingerRents$Borough" "members" "LGingerRents$Rows;" "GingerRents") ∈ lw_tbl := lw_at lw_m1 166 rfl
theorem q318 : (Jvm.Cond.fieldLinkNest "GingerRents" (94 : Nat) "GingerRents$Borough" "law" "Ljava/util/ArrayList;" "GingerRents") ∈ lw_tbl := lw_at lw_m1 168 rfl
theorem q320 : (Jvm.Cond.fieldLinkNest "GingerRents" (106 : Nat) "GingerRents$Borough" "sky" "Ljava/util/ArrayList;" "GingerRents") ∈ lw_tbl := lw_at lw_m1 170 rfl
theorem q322 : (Jvm.Cond.fieldLinkNest "GingerRents" (113 : Nat) "GingerRents$Borough" "office" "Ljava/util/ArrayList;" "GingerRents") ∈ lw_tbl := lw_at lw_m1 172 rfl
theorem q324 : (Jvm.Cond.fieldLinkNest "GingerRents" (120 : Nat) "GingerRents$Borough" "nextTo" "[I" "GingerRents") ∈ lw_tbl := lw_at lw_m1 174 rfl
theorem q327 : (Jvm.Cond.fieldLinkNest "GingerRents" (151 : Nat) "GingerRents$Borough" "houses" "I" "GingerRents") ∈ lw_tbl := lw_at lw_m1 177 rfl
theorem q330 : (Jvm.Cond.fieldLinkNest "GingerRents" (190 : Nat) "GingerRents$Borough" "rain" "I" "GingerRents") ∈ lw_tbl := lw_at lw_m1 180 rfl
theorem q333 : (Jvm.Cond.fieldLinkNest "GingerRents" (386 : Nat) "GingerRents$Borough" "frost" "I" "GingerRents") ∈ lw_tbl := lw_at lw_m1 183 rfl
theorem q335 : (Jvm.Cond.fieldLinkNest "GingerRents" (258 : Nat) "GingerRents$Borough" "eaten" "I" "GingerRents") ∈ lw_tbl := lw_at lw_m1 185 rfl
theorem q337 : (Jvm.Cond.fieldLinkNest "GingerRents" (389 : Nat) "GingerRents$Borough" "gnawed" "I" "GingerRents") ∈ lw_tbl := lw_at lw_m1 187 rfl
theorem q339 : (Jvm.Cond.fieldLinkNest "GingerRents" (223 : Nat) "GingerRents$Borough" "quarter" "I" "GingerRents") ∈ lw_tbl := lw_at lw_m1 189 rfl
theorem q341 : (Jvm.Cond.fieldLinkNest "GingerRents" (158 : Nat) "GingerRents$Borough" "state" "I" "GingerRents") ∈ lw_tbl := lw_at lw_m1 191 rfl
theorem q343 : (Jvm.Cond.fieldLinkNest "GingerRents" (249 : Nat) "GingerRents$Borough" "lines" "I" "GingerRents") ∈ lw_tbl := lw_at lw_m1 193 rfl
theorem q345 : (Jvm.Cond.fieldLinkNest "GingerRents" (126 : Nat) "GingerRents$Borough" "nextLines" "I" "GingerRents") ∈ lw_tbl := lw_at lw_m1 195 rfl
theorem q346 : (Jvm.Cond.fieldLinkNest "GingerRents" (34 : Nat) "GingerRents$Borough" "isThought" "Z" "GingerRents") ∈ lw_tbl := lw_at lw_m1 196 rfl
theorem q404 : (Jvm.Cond.classLink "GingerRents" (42 : Nat) "[[I") ∈ lw_all := lw_g (lw_at lw_m2 14 rfl) rfl
theorem q405 : (Jvm.Cond.fieldLink "GingerRents" (9 : Nat) "GingerRents" "tape" "[B") ∈ lw_all := lw_g (lw_at lw_m2 15 rfl) rfl
theorem q408 : (Jvm.Cond.fieldLink "GingerRents" (74 : Nat) "GingerRents" "taped" "I") ∈ lw_all := lw_g (lw_at lw_m2 18 rfl) rfl
theorem q409 : (Jvm.Cond.fieldLink "GingerRents" (129 : Nat) "GingerRents" "faultKind" "I") ∈ lw_all := lw_g (lw_at lw_m2 19 rfl) rfl
theorem q410 : (Jvm.Cond.fieldLink "GingerRents" (13 : Nat) "GingerRents" "faultPlace" "I") ∈ lw_all := lw_g (lw_at lw_m2 20 rfl) rfl
theorem q411 : (Jvm.Cond.fieldLink "GingerRents" (20 : Nat) "GingerRents" "borough" "LGingerRents$Borough;") ∈ lw_all := lw_g (lw_at lw_m2 21 rfl) rfl
theorem q413 : (Jvm.Cond.fieldLink "GingerRents" (24 : Nat) "GingerRents" "kept" "LGingerRents$Borough;") ∈ lw_all := lw_g (lw_at lw_m2 23 rfl) rfl
theorem q414 : (Jvm.Cond.fieldLink "GingerRents" (27 : Nat) "GingerRents" "thought" "LGingerRents$Borough;") ∈ lw_all := lw_g (lw_at lw_m2 24 rfl) rfl
theorem q415 : (Jvm.Cond.fieldLink "GingerRents" (30 : Nat) "GingerRents" "back" "[LGingerRents$Borough;") ∈ lw_all := lw_g (lw_at lw_m2 25 rfl) rfl
theorem q416 : (Jvm.Cond.fieldLink "GingerRents" (144 : Nat) "GingerRents" "backMany" "I") ∈ lw_all := lw_g (lw_at lw_m2 26 rfl) rfl
theorem q417 : (Jvm.Cond.fieldLink "GingerRents" (380 : Nat) "GingerRents" "hasImage" "Z") ∈ lw_all := lw_g (lw_at lw_m2 27 rfl) rfl
theorem q418 : (Jvm.Cond.fieldLink "GingerRents" (38 : Nat) "GingerRents" "costTo" "[I") ∈ lw_all := lw_g (lw_at lw_m2 28 rfl) rfl
theorem q419 : (Jvm.Cond.fieldLink "GingerRents" (44 : Nat) "GingerRents" "leastOf" "[[I") ∈ lw_all := lw_g (lw_at lw_m2 29 rfl) rfl
theorem q420 : (Jvm.Cond.fieldLink "GingerRents" (47 : Nat) "GingerRents" "pansFor" "[I") ∈ lw_all := lw_g (lw_at lw_m2 30 rfl) rfl
theorem q421 : (Jvm.Cond.fieldLink "GingerRents" (50 : Nat) "GingerRents" "stoodOn" "[I") ∈ lw_all := lw_g (lw_at lw_m2 31 rfl) rfl
theorem q422 : (Jvm.Cond.fieldLink "GingerRents" (53 : Nat) "GingerRents" "order" "[I") ∈ lw_all := lw_g (lw_at lw_m2 32 rfl) rfl
theorem q423 : (Jvm.Cond.fieldLink "GingerRents" (56 : Nat) "GingerRents" "bestOrder" "[I") ∈ lw_all := lw_g (lw_at lw_m2 33 rfl) rfl
theorem q424 : (Jvm.Cond.fieldLink "GingerRents" (342 : Nat) "GingerRents" "earliest" "I") ∈ lw_all := lw_g (lw_at lw_m2 34 rfl) rfl
theorem q425 : (Jvm.Cond.fieldLink "GingerRents" (59 : Nat) "GingerRents" "waysTo" "[[I") ∈ lw_all := lw_g (lw_at lw_m2 35 rfl) rfl
theorem q426 : (Jvm.Cond.fieldLink "GingerRents" (62 : Nat) "GingerRents" "isLost" "[I") ∈ lw_all := lw_g (lw_at lw_m2 36 rfl) rfl
theorem q427 : (Jvm.Cond.laysFinal "GingerRents" "GingerRents" "tape" "[B") ∈ lw_all := lw_g (lw_at lw_m2 37 rfl) rfl
theorem q428 : (Jvm.Cond.soleField "GingerRents" "tape") ∈ lw_all := lw_g (lw_at lw_m2 38 rfl) rfl
theorem q429 : (Jvm.Cond.lays "GingerRents" "GingerRents" "taped" "I") ∈ lw_all := lw_g (lw_at lw_m2 39 rfl) rfl
theorem q430 : (Jvm.Cond.soleField "GingerRents" "taped") ∈ lw_all := lw_g (lw_at lw_m2 40 rfl) rfl
theorem q431 : (Jvm.Cond.lays "GingerRents" "GingerRents" "faultKind" "I") ∈ lw_all := lw_g (lw_at lw_m2 41 rfl) rfl
theorem q432 : (Jvm.Cond.soleField "GingerRents" "faultKind") ∈ lw_all := lw_g (lw_at lw_m2 42 rfl) rfl
theorem q433 : (Jvm.Cond.lays "GingerRents" "GingerRents" "faultPlace" "I") ∈ lw_all := lw_g (lw_at lw_m2 43 rfl) rfl
theorem q434 : (Jvm.Cond.soleField "GingerRents" "faultPlace") ∈ lw_all := lw_g (lw_at lw_m2 44 rfl) rfl
theorem q435 : (Jvm.Cond.laysFinal "GingerRents" "GingerRents" "borough" "LGingerRents$Borough;") ∈ lw_all := lw_g (lw_at lw_m2 45 rfl) rfl
theorem q436 : (Jvm.Cond.soleField "GingerRents" "borough") ∈ lw_all := lw_g (lw_at lw_m2 46 rfl) rfl
theorem q437 : (Jvm.Cond.laysFinal "GingerRents" "GingerRents" "kept" "LGingerRents$Borough;") ∈ lw_all := lw_g (lw_at lw_m2 47 rfl) rfl
theorem q438 : (Jvm.Cond.soleField "GingerRents" "kept") ∈ lw_all := lw_g (lw_at lw_m2 48 rfl) rfl
theorem q439 : (Jvm.Cond.laysFinal "GingerRents" "GingerRents" "thought" "LGingerRents$Borough;") ∈ lw_all := lw_g (lw_at lw_m2 49 rfl) rfl
theorem q440 : (Jvm.Cond.soleField "GingerRents" "thought") ∈ lw_all := lw_g (lw_at lw_m2 50 rfl) rfl
theorem q441 : (Jvm.Cond.laysFinal "GingerRents" "GingerRents" "back" "[LGingerRents$Borough;") ∈ lw_all := lw_g (lw_at lw_m2 51 rfl) rfl
theorem q442 : (Jvm.Cond.soleField "GingerRents" "back") ∈ lw_all := lw_g (lw_at lw_m2 52 rfl) rfl
theorem q443 : (Jvm.Cond.lays "GingerRents" "GingerRents" "backMany" "I") ∈ lw_all := lw_g (lw_at lw_m2 53 rfl) rfl
theorem q444 : (Jvm.Cond.soleField "GingerRents" "backMany") ∈ lw_all := lw_g (lw_at lw_m2 54 rfl) rfl
theorem q445 : (Jvm.Cond.lays "GingerRents" "GingerRents" "hasImage" "Z") ∈ lw_all := lw_g (lw_at lw_m2 55 rfl) rfl
theorem q446 : (Jvm.Cond.soleField "GingerRents" "hasImage") ∈ lw_all := lw_g (lw_at lw_m2 56 rfl) rfl
theorem q447 : (Jvm.Cond.laysFinal "GingerRents" "GingerRents" "costTo" "[I") ∈ lw_all := lw_g (lw_at lw_m2 57 rfl) rfl
theorem q448 : (Jvm.Cond.soleField "GingerRents" "costTo") ∈ lw_all := lw_g (lw_at lw_m2 58 rfl) rfl
theorem q449 : (Jvm.Cond.laysFinal "GingerRents" "GingerRents" "leastOf" "[[I") ∈ lw_all := lw_g (lw_at lw_m2 59 rfl) rfl
theorem q450 : (Jvm.Cond.soleField "GingerRents" "leastOf") ∈ lw_all := lw_g (lw_at lw_m2 60 rfl) rfl
theorem q451 : (Jvm.Cond.laysFinal "GingerRents" "GingerRents" "pansFor" "[I") ∈ lw_all := lw_g (lw_at lw_m2 61 rfl) rfl
theorem q452 : (Jvm.Cond.soleField "GingerRents" "pansFor") ∈ lw_all := lw_g (lw_at lw_m2 62 rfl) rfl
theorem q453 : (Jvm.Cond.laysFinal "GingerRents" "GingerRents" "stoodOn" "[I") ∈ lw_all := lw_g (lw_at lw_m2 63 rfl) rfl
theorem q454 : (Jvm.Cond.soleField "GingerRents" "stoodOn") ∈ lw_all := lw_g (lw_at lw_m2 64 rfl) rfl
theorem q455 : (Jvm.Cond.laysFinal "GingerRents" "GingerRents" "order" "[I") ∈ lw_all := lw_g (lw_at lw_m2 65 rfl) rfl
theorem q456 : (Jvm.Cond.soleField "GingerRents" "order") ∈ lw_all := lw_g (lw_at lw_m2 66 rfl) rfl
theorem q457 : (Jvm.Cond.laysFinal "GingerRents" "GingerRents" "bestOrder" "[I") ∈ lw_all := lw_g (lw_at lw_m2 67 rfl) rfl
theorem q458 : (Jvm.Cond.soleField "GingerRents" "bestOrder") ∈ lw_all := lw_g (lw_at lw_m2 68 rfl) rfl
theorem q459 : (Jvm.Cond.lays "GingerRents" "GingerRents" "earliest" "I") ∈ lw_all := lw_g (lw_at lw_m2 69 rfl) rfl
theorem q460 : (Jvm.Cond.soleField "GingerRents" "earliest") ∈ lw_all := lw_g (lw_at lw_m2 70 rfl) rfl
theorem q461 : (Jvm.Cond.laysFinal "GingerRents" "GingerRents" "waysTo" "[[I") ∈ lw_all := lw_g (lw_at lw_m2 71 rfl) rfl
theorem q462 : (Jvm.Cond.soleField "GingerRents" "waysTo") ∈ lw_all := lw_g (lw_at lw_m2 72 rfl) rfl
theorem q463 : (Jvm.Cond.laysFinal "GingerRents" "GingerRents" "isLost" "[I") ∈ lw_all := lw_g (lw_at lw_m2 73 rfl) rfl
theorem q464 : (Jvm.Cond.soleField "GingerRents" "isLost") ∈ lw_all := lw_g (lw_at lw_m2 74 rfl) rfl
theorem q465 : (Jvm.Cond.superclass "GingerRents" "java/lang/Object") ∈ lw_all := lw_g (lw_at lw_m2 75 rfl) rfl
theorem q467 : (Jvm.Cond.instanceMethod ({ cls := "GingerRents", name := "feed", desc := "(IIIII)I" } : Jvm.MethodName)) ∈ lw_all := lw_g (lw_at lw_m2 77 rfl) rfl
theorem q468 : (Jvm.Cond.selects "GingerRents" ({ cls := "GingerRents", name := "feed", desc := "(IIIII)I" } : Jvm.MethodName) ({ cls := "GingerRents", name := "feed", desc := "(IIIII)I" } : Jvm.MethodName)) ∈ lw_all := lw_g (lw_at lw_m2 78 rfl) rfl
theorem q469 : (Jvm.Cond.code ({ cls := "GingerRents", name := "feed", desc := "(IIIII)I" } : Jvm.MethodName) prog_1_method_4_code (6 : Nat) (Option.some Jvm.ClassFile.FieldType.int)) ∈ lw_all := lw_g (lw_at lw_m2 79 rfl) rfl
theorem q470 : (Jvm.Cond.methodLink "GingerRents" (77 : Nat) ({ cls := "GingerRents", name := "word", desc := "(I)V" } : Jvm.MethodName)) ∈ lw_all := lw_g (lw_at lw_m2 80 rfl) rfl
theorem q471 : (Jvm.Cond.privateMethod ({ cls := "GingerRents", name := "word", desc := "(I)V" } : Jvm.MethodName)) ∈ lw_tbl := lw_at lw_m2 81 rfl
theorem q472 : (Jvm.Cond.instanceMethod ({ cls := "GingerRents", name := "word", desc := "(I)V" } : Jvm.MethodName)) ∈ lw_all := lw_g (lw_at lw_m2 82 rfl) rfl
theorem q473 : (Jvm.Cond.code ({ cls := "GingerRents", name := "word", desc := "(I)V" } : Jvm.MethodName) prog_1_method_5_code (3 : Nat) (Option.none : Option Jvm.ClassFile.FieldType)) ∈ lw_all := lw_g (lw_at lw_m2 83 rfl) rfl
theorem q475 : (Jvm.Cond.instanceMethod ({ cls := "GingerRents", name := "end", desc := "(I)Z" } : Jvm.MethodName)) ∈ lw_all := lw_g (lw_at lw_m2 85 rfl) rfl
theorem q476 : (Jvm.Cond.selects "GingerRents" ({ cls := "GingerRents", name := "end", desc := "(I)Z" } : Jvm.MethodName) ({ cls := "GingerRents", name := "end", desc := "(I)Z" } : Jvm.MethodName)) ∈ lw_all := lw_g (lw_at lw_m2 86 rfl) rfl
theorem q477 : (Jvm.Cond.code ({ cls := "GingerRents", name := "end", desc := "(I)Z" } : Jvm.MethodName) prog_1_method_6_code (2 : Nat) (Option.some Jvm.ClassFile.FieldType.boolean)) ∈ lw_all := lw_g (lw_at lw_m2 87 rfl) rfl
theorem q478 : (Jvm.Cond.methodLink "GingerRents" (81 : Nat) ({ cls := "GingerRents", name := "isIn", desc := "(III)Z" } : Jvm.MethodName)) ∈ lw_all := lw_g (lw_at lw_m2 88 rfl) rfl
theorem q479 : (Jvm.Cond.static ({ cls := "GingerRents", name := "isIn", desc := "(III)Z" } : Jvm.MethodName)) ∈ lw_all := lw_g (lw_at lw_m2 89 rfl) rfl
theorem q480 : (Jvm.Cond.code ({ cls := "GingerRents", name := "isIn", desc := "(III)Z" } : Jvm.MethodName) prog_1_method_2_code (3 : Nat) (Option.some Jvm.ClassFile.FieldType.boolean)) ∈ lw_all := lw_g (lw_at lw_m2 90 rfl) rfl
theorem q482 : (Jvm.Cond.instanceMethod ({ cls := "GingerRents", name := "text", desc := "(I)I" } : Jvm.MethodName)) ∈ lw_all := lw_g (lw_at lw_m2 92 rfl) rfl
theorem q483 : (Jvm.Cond.selects "GingerRents" ({ cls := "GingerRents", name := "text", desc := "(I)I" } : Jvm.MethodName) ({ cls := "GingerRents", name := "text", desc := "(I)I" } : Jvm.MethodName)) ∈ lw_all := lw_g (lw_at lw_m2 93 rfl) rfl
theorem q484 : (Jvm.Cond.codeWith ({ cls := "GingerRents", name := "text", desc := "(I)I" } : Jvm.MethodName) prog_1_method_8_code (5 : Nat) (Option.some Jvm.ClassFile.FieldType.int) [((10 : Nat), (29 : Nat), (36 : Nat), (136 : Nat)), ((10 : Nat), (29 : Nat), (62 : Nat), (0 : Nat)), ((36 : Nat), (55 : Nat), (62 : Nat), (0 : Nat)), ((62 : Nat), (64 : Nat), (62 : Nat), (0 : Nat))]) ∈ lw_all := lw_g (lw_at lw_m2 94 rfl) rfl
theorem q485 : (Jvm.Cond.classLink "GingerRents" (136 : Nat) "GingerRents$Fault") ∈ lw_all := lw_g (lw_at lw_m2 95 rfl) rfl
theorem q486 : (Jvm.Cond.methodLink "GingerRents" (132 : Nat) ({ cls := "GingerRents", name := "reads", desc := "(I)I" } : Jvm.MethodName)) ∈ lw_all := lw_g (lw_at lw_m2 96 rfl) rfl
theorem q487 : (Jvm.Cond.privateMethod ({ cls := "GingerRents", name := "reads", desc := "(I)I" } : Jvm.MethodName)) ∈ lw_tbl := lw_at lw_m2 97 rfl
theorem q488 : (Jvm.Cond.instanceMethod ({ cls := "GingerRents", name := "reads", desc := "(I)I" } : Jvm.MethodName)) ∈ lw_all := lw_g (lw_at lw_m2 98 rfl) rfl
theorem q489 : (Jvm.Cond.code ({ cls := "GingerRents", name := "reads", desc := "(I)I" } : Jvm.MethodName) prog_1_method_7_code (3 : Nat) (Option.some Jvm.ClassFile.FieldType.int)) ∈ lw_all := lw_g (lw_at lw_m2 99 rfl) rfl
theorem q490 : (Jvm.Cond.classLink "GingerRents" (85 : Nat) "GingerRents$Reader") ∈ lw_all := lw_g (lw_at lw_m2 100 rfl) rfl
theorem q492 : (Jvm.Cond.methodLink "GingerRents" (87 : Nat) ({ cls := "GingerRents$Reader", name := "<init>", desc := "(LGingerRents;I)V" } : Jvm.MethodName)) ∈ lw_all := lw_g (lw_at lw_m2 102 rfl) rfl
theorem q503 : (Jvm.Cond.fieldLinkNest "GingerRents" (123 : Nat) "GingerRents$Reader" "told" "I" "GingerRents") ∈ lw_tbl := lw_at lw_m2 113 rfl
theorem q525 : (Jvm.Cond.methodLink "GingerRents" (90 : Nat) ({ cls := "GingerRents$Reader", name := "law", desc := "()Ljava/util/ArrayList;" } : Jvm.MethodName)) ∈ lw_all := lw_g (lw_at lw_m2 135 rfl) rfl
theorem q692 : (Jvm.Cond.fieldLinkNest "GingerRents" (138 : Nat) "GingerRents$Fault" "kind" "I" "GingerRents") ∈ lw_tbl := lw_at lw_m3 62 rfl
theorem q694 : (Jvm.Cond.fieldLinkNest "GingerRents" (141 : Nat) "GingerRents$Fault" "place" "I" "GingerRents") ∈ lw_tbl := lw_at lw_m3 64 rfl
theorem q851 : (Jvm.Cond.selects "GingerRents" ({ cls := "java/lang/Object", name := "getClass", desc := "()Ljava/lang/Class;" } : Jvm.MethodName) ({ cls := "java/lang/Object", name := "getClass", desc := "()Ljava/lang/Class;" } : Jvm.MethodName)) ∈ lw_all := lw_g (lw_at lw_m3 221 rfl) rfl
theorem q885 : (Jvm.Cond.methodLink "GingerRents" (97 : Nat) ({ cls := "java/util/ArrayList", name := "size", desc := "()I" } : Jvm.MethodName)) ∈ lw_all := lw_g (lw_at lw_m4 15 rfl) rfl
theorem q886 : (Jvm.Cond.methodLink "GingerRents" (103 : Nat) ({ cls := "GingerRents$Reader", name := "entries", desc := "()Ljava/util/ArrayList;" } : Jvm.MethodName)) ∈ lw_all := lw_g (lw_at lw_m4 16 rfl) rfl
theorem q972 : (Jvm.Cond.methodLink "GingerRents" (109 : Nat) ({ cls := "GingerRents", name := "forgets", desc := "()Z" } : Jvm.MethodName)) ∈ lw_all := lw_g (lw_at lw_m4 102 rfl) rfl
theorem q973 : (Jvm.Cond.privateMethod ({ cls := "GingerRents", name := "forgets", desc := "()Z" } : Jvm.MethodName)) ∈ lw_tbl := lw_at lw_m4 103 rfl
theorem q974 : (Jvm.Cond.instanceMethod ({ cls := "GingerRents", name := "forgets", desc := "()Z" } : Jvm.MethodName)) ∈ lw_all := lw_g (lw_at lw_m4 104 rfl) rfl
theorem q975 : (Jvm.Cond.code ({ cls := "GingerRents", name := "forgets", desc := "()Z" } : Jvm.MethodName) prog_1_method_10_code (1 : Nat) (Option.some Jvm.ClassFile.FieldType.boolean)) ∈ lw_all := lw_g (lw_at lw_m4 105 rfl) rfl
theorem q976 : (Jvm.Cond.methodLink "GingerRents" (116 : Nat) ({ cls := "GingerRents$Reader", name := "neighbours", desc := "()[I" } : Jvm.MethodName)) ∈ lw_all := lw_g (lw_at lw_m4 106 rfl) rfl
theorem q981 : (Jvm.Cond.instanceMethod ({ cls := "GingerRents", name := "fault", desc := "(I)I" } : Jvm.MethodName)) ∈ lw_all := lw_g (lw_at lw_m4 111 rfl) rfl
theorem q982 : (Jvm.Cond.selects "GingerRents" ({ cls := "GingerRents", name := "fault", desc := "(I)I" } : Jvm.MethodName) ({ cls := "GingerRents", name := "fault", desc := "(I)I" } : Jvm.MethodName)) ∈ lw_all := lw_g (lw_at lw_m4 112 rfl) rfl
theorem q983 : (Jvm.Cond.code ({ cls := "GingerRents", name := "fault", desc := "(I)I" } : Jvm.MethodName) prog_1_method_9_code (2 : Nat) (Option.some Jvm.ClassFile.FieldType.int)) ∈ lw_all := lw_g (lw_at lw_m4 113 rfl) rfl
theorem q985 : (Jvm.Cond.instanceMethod ({ cls := "GingerRents", name := "undo", desc := "()Z" } : Jvm.MethodName)) ∈ lw_all := lw_g (lw_at lw_m4 115 rfl) rfl
theorem q986 : (Jvm.Cond.selects "GingerRents" ({ cls := "GingerRents", name := "undo", desc := "()Z" } : Jvm.MethodName) ({ cls := "GingerRents", name := "undo", desc := "()Z" } : Jvm.MethodName)) ∈ lw_all := lw_g (lw_at lw_m4 116 rfl) rfl
theorem q987 : (Jvm.Cond.code ({ cls := "GingerRents", name := "undo", desc := "()Z" } : Jvm.MethodName) prog_1_method_12_code (1 : Nat) (Option.some Jvm.ClassFile.FieldType.boolean)) ∈ lw_all := lw_g (lw_at lw_m4 117 rfl) rfl
theorem q988 : (Jvm.Cond.methodLink "GingerRents" (147 : Nat) ({ cls := "GingerRents$Borough", name := "moves", desc := "(LGingerRents$Borough;)V" } : Jvm.MethodName)) ∈ lw_all := lw_g (lw_at lw_m4 118 rfl) rfl
theorem q997 : (Jvm.Cond.instanceMethod ({ cls := "GingerRents", name := "state", desc := "(I)I" } : Jvm.MethodName)) ∈ lw_all := lw_g (lw_at lw_m4 127 rfl) rfl
theorem q998 : (Jvm.Cond.selects "GingerRents" ({ cls := "GingerRents", name := "state", desc := "(I)I" } : Jvm.MethodName) ({ cls := "GingerRents", name := "state", desc := "(I)I" } : Jvm.MethodName)) ∈ lw_all := lw_g (lw_at lw_m4 128 rfl) rfl
theorem q999 : (Jvm.Cond.code ({ cls := "GingerRents", name := "state", desc := "(I)I" } : Jvm.MethodName) prog_1_method_15_code (3 : Nat) (Option.some Jvm.ClassFile.FieldType.int)) ∈ lw_all := lw_g (lw_at lw_m4 129 rfl) rfl
theorem q1001 : (Jvm.Cond.instanceMethod ({ cls := "GingerRents", name := "house", desc := "(III)I" } : Jvm.MethodName)) ∈ lw_all := lw_g (lw_at lw_m4 131 rfl) rfl
theorem q1002 : (Jvm.Cond.selects "GingerRents" ({ cls := "GingerRents", name := "house", desc := "(III)I" } : Jvm.MethodName) ({ cls := "GingerRents", name := "house", desc := "(III)I" } : Jvm.MethodName)) ∈ lw_all := lw_g (lw_at lw_m4 132 rfl) rfl
theorem q1003 : (Jvm.Cond.code ({ cls := "GingerRents", name := "house", desc := "(III)I" } : Jvm.MethodName) prog_1_method_16_code (4 : Nat) (Option.some Jvm.ClassFile.FieldType.int)) ∈ lw_all := lw_g (lw_at lw_m4 133 rfl) rfl
theorem q1004 : (Jvm.Cond.methodLink "GingerRents" (161 : Nat) ({ cls := "GingerRents", name := "at", desc := "(I)LGingerRents$House;" } : Jvm.MethodName)) ∈ lw_all := lw_g (lw_at lw_m4 134 rfl) rfl
theorem q1005 : (Jvm.Cond.privateMethod ({ cls := "GingerRents", name := "at", desc := "(I)LGingerRents$House;" } : Jvm.MethodName)) ∈ lw_tbl := lw_at lw_m4 135 rfl
theorem q1006 : (Jvm.Cond.instanceMethod ({ cls := "GingerRents", name := "at", desc := "(I)LGingerRents$House;" } : Jvm.MethodName)) ∈ lw_all := lw_g (lw_at lw_m4 136 rfl) rfl
theorem q1007 : (Jvm.Cond.code ({ cls := "GingerRents", name := "at", desc := "(I)LGingerRents$House;" } : Jvm.MethodName) prog_1_method_14_code (2 : Nat) (Option.some (Jvm.ClassFile.FieldType.object "GingerRents$House"))) ∈ lw_all := lw_g (lw_at lw_m4 137 rfl) rfl
theorem q1008 : (Jvm.Cond.methodLink "GingerRents" (165 : Nat) ({ cls := "GingerRents$House", name := "begins", desc := "(III)V" } : Jvm.MethodName)) ∈ lw_all := lw_g (lw_at lw_m4 138 rfl) rfl
theorem q1013 : (Jvm.Cond.instanceMethod ({ cls := "GingerRents", name := "set", desc := "(III)Z" } : Jvm.MethodName)) ∈ lw_all := lw_g (lw_at lw_m4 143 rfl) rfl
theorem q1014 : (Jvm.Cond.selects "GingerRents" ({ cls := "GingerRents", name := "set", desc := "(III)Z" } : Jvm.MethodName) ({ cls := "GingerRents", name := "set", desc := "(III)Z" } : Jvm.MethodName)) ∈ lw_all := lw_g (lw_at lw_m4 144 rfl) rfl
theorem q1015 : (Jvm.Cond.code ({ cls := "GingerRents", name := "set", desc := "(III)Z" } : Jvm.MethodName) prog_1_method_18_code (4 : Nat) (Option.some Jvm.ClassFile.FieldType.boolean)) ∈ lw_all := lw_g (lw_at lw_m4 145 rfl) rfl
theorem q1016 : (Jvm.Cond.methodLink "GingerRents" (175 : Nat) ({ cls := "GingerRents", name := "canSet", desc := "(III)Z" } : Jvm.MethodName)) ∈ lw_all := lw_g (lw_at lw_m4 146 rfl) rfl
theorem q1017 : (Jvm.Cond.privateMethod ({ cls := "GingerRents", name := "canSet", desc := "(III)Z" } : Jvm.MethodName)) ∈ lw_tbl := lw_at lw_m4 147 rfl
theorem q1018 : (Jvm.Cond.instanceMethod ({ cls := "GingerRents", name := "canSet", desc := "(III)Z" } : Jvm.MethodName)) ∈ lw_all := lw_g (lw_at lw_m4 148 rfl) rfl
theorem q1019 : (Jvm.Cond.code ({ cls := "GingerRents", name := "canSet", desc := "(III)Z" } : Jvm.MethodName) prog_1_method_17_code (4 : Nat) (Option.some Jvm.ClassFile.FieldType.boolean)) ∈ lw_all := lw_g (lw_at lw_m4 149 rfl) rfl
theorem q1020 : (Jvm.Cond.methodLink "GingerRents" (171 : Nat) ({ cls := "GingerRents", name := "isHouse", desc := "(I)Z" } : Jvm.MethodName)) ∈ lw_all := lw_g (lw_at lw_m4 150 rfl) rfl
theorem q1021 : (Jvm.Cond.privateMethod ({ cls := "GingerRents", name := "isHouse", desc := "(I)Z" } : Jvm.MethodName)) ∈ lw_tbl := lw_at lw_m4 151 rfl
theorem q1022 : (Jvm.Cond.instanceMethod ({ cls := "GingerRents", name := "isHouse", desc := "(I)Z" } : Jvm.MethodName)) ∈ lw_all := lw_g (lw_at lw_m4 152 rfl) rfl
theorem q1023 : (Jvm.Cond.code ({ cls := "GingerRents", name := "isHouse", desc := "(I)Z" } : Jvm.MethodName) prog_1_method_13_code (2 : Nat) (Option.some Jvm.ClassFile.FieldType.boolean)) ∈ lw_all := lw_g (lw_at lw_m4 153 rfl) rfl
theorem q1025 : (Jvm.Cond.instanceMethod ({ cls := "GingerRents", name := "act", desc := "(III)Z" } : Jvm.MethodName)) ∈ lw_all := lw_g (lw_at lw_m4 155 rfl) rfl
theorem q1026 : (Jvm.Cond.selects "GingerRents" ({ cls := "GingerRents", name := "act", desc := "(III)Z" } : Jvm.MethodName) ({ cls := "GingerRents", name := "act", desc := "(III)Z" } : Jvm.MethodName)) ∈ lw_all := lw_g (lw_at lw_m4 156 rfl) rfl
theorem q1027 : (Jvm.Cond.code ({ cls := "GingerRents", name := "act", desc := "(III)Z" } : Jvm.MethodName) prog_1_method_20_code (4 : Nat) (Option.some Jvm.ClassFile.FieldType.boolean)) ∈ lw_all := lw_g (lw_at lw_m4 157 rfl) rfl
theorem q1028 : (Jvm.Cond.methodLink "GingerRents" (202 : Nat) ({ cls := "GingerRents", name := "canAct", desc := "(III)Z" } : Jvm.MethodName)) ∈ lw_all := lw_g (lw_at lw_m4 158 rfl) rfl
theorem q1029 : (Jvm.Cond.privateMethod ({ cls := "GingerRents", name := "canAct", desc := "(III)Z" } : Jvm.MethodName)) ∈ lw_tbl := lw_at lw_m4 159 rfl
theorem q1030 : (Jvm.Cond.instanceMethod ({ cls := "GingerRents", name := "canAct", desc := "(III)Z" } : Jvm.MethodName)) ∈ lw_all := lw_g (lw_at lw_m4 160 rfl) rfl
theorem q1031 : (Jvm.Cond.code ({ cls := "GingerRents", name := "canAct", desc := "(III)Z" } : Jvm.MethodName) prog_1_method_19_code (4 : Nat) (Option.some Jvm.ClassFile.FieldType.boolean)) ∈ lw_all := lw_g (lw_at lw_m4 161 rfl) rfl
theorem q1032 : (Jvm.Cond.methodLink "GingerRents" (196 : Nat) ({ cls := "GingerRents$Borough", name := "canWed", desc := "(I)Z" } : Jvm.MethodName)) ∈ lw_all := lw_g (lw_at lw_m4 162 rfl) rfl
theorem q1044 : (Jvm.Cond.methodLink "GingerRents" (199 : Nat) ({ cls := "GingerRents$House", name := "stands", desc := "()Z" } : Jvm.MethodName)) ∈ lw_all := lw_g (lw_at lw_m4 174 rfl) rfl
theorem q1045 : (Jvm.Cond.methodLink "GingerRents" (205 : Nat) ({ cls := "GingerRents", name := "remembers", desc := "()V" } : Jvm.MethodName)) ∈ lw_all := lw_g (lw_at lw_m4 175 rfl) rfl
theorem q1046 : (Jvm.Cond.privateMethod ({ cls := "GingerRents", name := "remembers", desc := "()V" } : Jvm.MethodName)) ∈ lw_tbl := lw_at lw_m4 176 rfl
theorem q1047 : (Jvm.Cond.instanceMethod ({ cls := "GingerRents", name := "remembers", desc := "()V" } : Jvm.MethodName)) ∈ lw_all := lw_g (lw_at lw_m4 177 rfl) rfl
theorem q1048 : (Jvm.Cond.code ({ cls := "GingerRents", name := "remembers", desc := "()V" } : Jvm.MethodName) prog_1_method_11_code (3 : Nat) (Option.none : Option Jvm.ClassFile.FieldType)) ∈ lw_all := lw_g (lw_at lw_m4 178 rfl) rfl
theorem q1049 : (Jvm.Cond.methodLink "GingerRents" (208 : Nat) ({ cls := "GingerRents$Borough", name := "weds", desc := "(I)V" } : Jvm.MethodName)) ∈ lw_all := lw_g (lw_at lw_m4 179 rfl) rfl
theorem q1082 : (Jvm.Cond.methodLink "GingerRents" (211 : Nat) ({ cls := "GingerRents$Borough", name := "moves", desc := "(II)V" } : Jvm.MethodName)) ∈ lw_all := lw_g (lw_at lw_m4 212 rfl) rfl
theorem q1083 : (Jvm.Cond.methodLink "GingerRents" (214 : Nat) ({ cls := "GingerRents$Borough", name := "razes", desc := "(I)V" } : Jvm.MethodName)) ∈ lw_all := lw_g (lw_at lw_m4 213 rfl) rfl
theorem q1087 : (Jvm.Cond.methodLink "GingerRents" (217 : Nat) ({ cls := "GingerRents$Borough", name := "nibbles", desc := "(III)V" } : Jvm.MethodName)) ∈ lw_all := lw_g (lw_at lw_m4 217 rfl) rfl
theorem q1091 : (Jvm.Cond.methodLink "GingerRents" (220 : Nat) ({ cls := "GingerRents$House", name := "bakes", desc := "(II)V" } : Jvm.MethodName)) ∈ lw_all := lw_g (lw_at lw_m4 221 rfl) rfl
theorem q1096 : (Jvm.Cond.instanceMethod ({ cls := "GingerRents", name := "quarters", desc := "(I)I" } : Jvm.MethodName)) ∈ lw_all := lw_g (lw_at lw_m4 226 rfl) rfl
theorem q1097 : (Jvm.Cond.selects "GingerRents" ({ cls := "GingerRents", name := "quarters", desc := "(I)I" } : Jvm.MethodName) ({ cls := "GingerRents", name := "quarters", desc := "(I)I" } : Jvm.MethodName)) ∈ lw_all := lw_g (lw_at lw_m4 227 rfl) rfl
theorem q1098 : (Jvm.Cond.code ({ cls := "GingerRents", name := "quarters", desc := "(I)I" } : Jvm.MethodName) prog_1_method_21_code (4 : Nat) (Option.some Jvm.ClassFile.FieldType.int)) ∈ lw_all := lw_g (lw_at lw_m4 228 rfl) rfl
theorem q1099 : (Jvm.Cond.methodLink "GingerRents" (226 : Nat) ({ cls := "GingerRents$Borough", name := "passes", desc := "()I" } : Jvm.MethodName)) ∈ lw_all := lw_g (lw_at lw_m4 229 rfl) rfl
theorem q1217 : (Jvm.Cond.static ({ cls := "GingerRents", name := "bound", desc := "(III)I" } : Jvm.MethodName)) ∈ lw_all := lw_g (lw_at lw_m5 107 rfl) rfl
theorem q1218 : (Jvm.Cond.code ({ cls := "GingerRents", name := "bound", desc := "(III)I" } : Jvm.MethodName) prog_1_method_3_code (3 : Nat) (Option.some Jvm.ClassFile.FieldType.int)) ∈ lw_all := lw_g (lw_at lw_m5 108 rfl) rfl
theorem q1219 : (Jvm.Cond.methodLink "GingerRents" (65 : Nat) ({ cls := "java/lang/Math", name := "min", desc := "(II)I" } : Jvm.MethodName)) ∈ lw_all := lw_g (lw_at lw_m5 109 rfl) rfl
theorem q1220 : (Jvm.Cond.methodLink "GingerRents" (71 : Nat) ({ cls := "java/lang/Math", name := "max", desc := "(II)I" } : Jvm.MethodName)) ∈ lw_all := lw_g (lw_at lw_m5 110 rfl) rfl
theorem q1255 : (Jvm.Cond.instanceMethod ({ cls := "GingerRents", name := "of", desc := "(II)I" } : Jvm.MethodName)) ∈ lw_all := lw_g (lw_at lw_m5 145 rfl) rfl
theorem q1256 : (Jvm.Cond.selects "GingerRents" ({ cls := "GingerRents", name := "of", desc := "(II)I" } : Jvm.MethodName) ({ cls := "GingerRents", name := "of", desc := "(II)I" } : Jvm.MethodName)) ∈ lw_all := lw_g (lw_at lw_m5 146 rfl) rfl
theorem q1257 : (Jvm.Cond.code ({ cls := "GingerRents", name := "of", desc := "(II)I" } : Jvm.MethodName) prog_1_method_22_code (4 : Nat) (Option.some Jvm.ClassFile.FieldType.int)) ∈ lw_all := lw_g (lw_at lw_m5 147 rfl) rfl
theorem q1258 : (Jvm.Cond.methodLink "GingerRents" (229 : Nat) ({ cls := "GingerRents$Borough", name := "gnaws", desc := "(LGingerRents$House;I)I" } : Jvm.MethodName)) ∈ lw_all := lw_g (lw_at lw_m5 148 rfl) rfl
theorem q1259 : (Jvm.Cond.methodLink "GingerRents" (233 : Nat) ({ cls := "GingerRents$Borough", name := "melts", desc := "(LGingerRents$House;I)I" } : Jvm.MethodName)) ∈ lw_all := lw_g (lw_at lw_m5 149 rfl) rfl
theorem q1260 : (Jvm.Cond.methodLink "GingerRents" (245 : Nat) ({ cls := "GingerRents$Borough", name := "rent", desc := "(LGingerRents$House;)I" } : Jvm.MethodName)) ∈ lw_all := lw_g (lw_at lw_m5 150 rfl) rfl
theorem q1262 : (Jvm.Cond.instanceMethod ({ cls := "GingerRents", name := "book", desc := "(II)I" } : Jvm.MethodName)) ∈ lw_all := lw_g (lw_at lw_m5 152 rfl) rfl
theorem q1263 : (Jvm.Cond.selects "GingerRents" ({ cls := "GingerRents", name := "book", desc := "(II)I" } : Jvm.MethodName) ({ cls := "GingerRents", name := "book", desc := "(II)I" } : Jvm.MethodName)) ∈ lw_all := lw_g (lw_at lw_m5 153 rfl) rfl
theorem q1264 : (Jvm.Cond.code ({ cls := "GingerRents", name := "book", desc := "(II)I" } : Jvm.MethodName) prog_1_method_23_code (3 : Nat) (Option.some Jvm.ClassFile.FieldType.int)) ∈ lw_all := lw_g (lw_at lw_m5 154 rfl) rfl
theorem q1266 : (Jvm.Cond.instanceMethod ({ cls := "GingerRents", name := "goes", desc := "(II)I" } : Jvm.MethodName)) ∈ lw_all := lw_g (lw_at lw_m5 156 rfl) rfl
theorem q1267 : (Jvm.Cond.selects "GingerRents" ({ cls := "GingerRents", name := "goes", desc := "(II)I" } : Jvm.MethodName) ({ cls := "GingerRents", name := "goes", desc := "(II)I" } : Jvm.MethodName)) ∈ lw_all := lw_g (lw_at lw_m5 157 rfl) rfl
theorem q1268 : (Jvm.Cond.code ({ cls := "GingerRents", name := "goes", desc := "(II)I" } : Jvm.MethodName) prog_1_method_24_code (5 : Nat) (Option.some Jvm.ClassFile.FieldType.int)) ∈ lw_all := lw_g (lw_at lw_m5 158 rfl) rfl
theorem q1269 : (Jvm.Cond.methodLink "GingerRents" (255 : Nat) ({ cls := "GingerRents$Borough", name := "thinks", desc := "(LGingerRents$Borough;)V" } : Jvm.MethodName)) ∈ lw_all := lw_g (lw_at lw_m5 159 rfl) rfl
theorem q1274 : (Jvm.Cond.methodLink "GingerRents" (261 : Nat) ({ cls := "GingerRents$Borough", name := "standing", desc := "()I" } : Jvm.MethodName)) ∈ lw_all := lw_g (lw_at lw_m5 164 rfl) rfl
theorem q1275 : (Jvm.Cond.methodLink "GingerRents" (264 : Nat) ({ cls := "java/lang/Integer", name := "bitCount", desc := "(I)I" } : Jvm.MethodName)) ∈ lw_all := lw_g (lw_at lw_m5 165 rfl) rfl
theorem q1277 : (Jvm.Cond.instanceMethod ({ cls := "GingerRents", name := "stands", desc := "(I)I" } : Jvm.MethodName)) ∈ lw_all := lw_g (lw_at lw_m5 167 rfl) rfl
theorem q1278 : (Jvm.Cond.selects "GingerRents" ({ cls := "GingerRents", name := "stands", desc := "(I)I" } : Jvm.MethodName) ({ cls := "GingerRents", name := "stands", desc := "(I)I" } : Jvm.MethodName)) ∈ lw_all := lw_g (lw_at lw_m5 168 rfl) rfl
theorem q1279 : (Jvm.Cond.code ({ cls := "GingerRents", name := "stands", desc := "(I)I" } : Jvm.MethodName) prog_1_method_25_code (3 : Nat) (Option.some Jvm.ClassFile.FieldType.int)) ∈ lw_all := lw_g (lw_at lw_m5 169 rfl) rfl
theorem q1281 : (Jvm.Cond.instanceMethod ({ cls := "GingerRents", name := "hears", desc := "(II)I" } : Jvm.MethodName)) ∈ lw_all := lw_g (lw_at lw_m5 171 rfl) rfl
theorem q1282 : (Jvm.Cond.selects "GingerRents" ({ cls := "GingerRents", name := "hears", desc := "(II)I" } : Jvm.MethodName) ({ cls := "GingerRents", name := "hears", desc := "(II)I" } : Jvm.MethodName)) ∈ lw_all := lw_g (lw_at lw_m5 172 rfl) rfl
theorem q1283 : (Jvm.Cond.code ({ cls := "GingerRents", name := "hears", desc := "(II)I" } : Jvm.MethodName) prog_1_method_29_code (3 : Nat) (Option.some Jvm.ClassFile.FieldType.int)) ∈ lw_all := lw_g (lw_at lw_m5 173 rfl) rfl
theorem q1284 : (Jvm.Cond.methodLink "GingerRents" (280 : Nat) ({ cls := "GingerRents", name := "cost", desc := "(IIZ)I" } : Jvm.MethodName)) ∈ lw_all := lw_g (lw_at lw_m5 174 rfl) rfl
theorem q1285 : (Jvm.Cond.privateMethod ({ cls := "GingerRents", name := "cost", desc := "(IIZ)I" } : Jvm.MethodName)) ∈ lw_tbl := lw_at lw_m5 175 rfl
theorem q1286 : (Jvm.Cond.instanceMethod ({ cls := "GingerRents", name := "cost", desc := "(IIZ)I" } : Jvm.MethodName)) ∈ lw_all := lw_g (lw_at lw_m5 176 rfl) rfl
theorem q1287 : (Jvm.Cond.code ({ cls := "GingerRents", name := "cost", desc := "(IIZ)I" } : Jvm.MethodName) prog_1_method_28_code (4 : Nat) (Option.some Jvm.ClassFile.FieldType.int)) ∈ lw_all := lw_g (lw_at lw_m5 177 rfl) rfl
theorem q1288 : (Jvm.Cond.methodLink "GingerRents" (276 : Nat) ({ cls := "GingerRents", name := "laysCosts", desc := "(IZ)V" } : Jvm.MethodName)) ∈ lw_all := lw_g (lw_at lw_m5 178 rfl) rfl
theorem q1289 : (Jvm.Cond.privateMethod ({ cls := "GingerRents", name := "laysCosts", desc := "(IZ)V" } : Jvm.MethodName)) ∈ lw_tbl := lw_at lw_m5 179 rfl
theorem q1290 : (Jvm.Cond.instanceMethod ({ cls := "GingerRents", name := "laysCosts", desc := "(IZ)V" } : Jvm.MethodName)) ∈ lw_all := lw_g (lw_at lw_m5 180 rfl) rfl
theorem q1291 : (Jvm.Cond.code ({ cls := "GingerRents", name := "laysCosts", desc := "(IZ)V" } : Jvm.MethodName) prog_1_method_27_code (6 : Nat) (Option.none : Option Jvm.ClassFile.FieldType)) ∈ lw_all := lw_g (lw_at lw_m5 181 rfl) rfl
theorem q1292 : (Jvm.Cond.constant "GingerRents" (272 : Nat) (1000000 : Int32)) ∈ lw_all := lw_g (lw_at lw_m5 182 rfl) rfl
theorem q1293 : (Jvm.Cond.methodLink "GingerRents" (273 : Nat) ({ cls := "GingerRents", name := "step", desc := "(II)I" } : Jvm.MethodName)) ∈ lw_all := lw_g (lw_at lw_m5 183 rfl) rfl
theorem q1294 : (Jvm.Cond.privateMethod ({ cls := "GingerRents", name := "step", desc := "(II)I" } : Jvm.MethodName)) ∈ lw_tbl := lw_at lw_m5 184 rfl
theorem q1295 : (Jvm.Cond.instanceMethod ({ cls := "GingerRents", name := "step", desc := "(II)I" } : Jvm.MethodName)) ∈ lw_all := lw_g (lw_at lw_m5 185 rfl) rfl
theorem q1296 : (Jvm.Cond.code ({ cls := "GingerRents", name := "step", desc := "(II)I" } : Jvm.MethodName) prog_1_method_26_code (3 : Nat) (Option.some Jvm.ClassFile.FieldType.int)) ∈ lw_all := lw_g (lw_at lw_m5 186 rfl) rfl
theorem q1297 : (Jvm.Cond.methodLink "GingerRents" (269 : Nat) ({ cls := "GingerRents$House", name := "sum", desc := "()I" } : Jvm.MethodName)) ∈ lw_all := lw_g (lw_at lw_m5 187 rfl) rfl
theorem q1299 : (Jvm.Cond.instanceMethod ({ cls := "GingerRents", name := "ants", desc := "(II)I" } : Jvm.MethodName)) ∈ lw_all := lw_g (lw_at lw_m5 189 rfl) rfl
theorem q1300 : (Jvm.Cond.selects "GingerRents" ({ cls := "GingerRents", name := "ants", desc := "(II)I" } : Jvm.MethodName) ({ cls := "GingerRents", name := "ants", desc := "(II)I" } : Jvm.MethodName)) ∈ lw_all := lw_g (lw_at lw_m5 190 rfl) rfl
theorem q1301 : (Jvm.Cond.code ({ cls := "GingerRents", name := "ants", desc := "(II)I" } : Jvm.MethodName) prog_1_method_30_code (3 : Nat) (Option.some Jvm.ClassFile.FieldType.int)) ∈ lw_all := lw_g (lw_at lw_m5 191 rfl) rfl
theorem q1303 : (Jvm.Cond.instanceMethod ({ cls := "GingerRents", name := "heard", desc := "(II)I" } : Jvm.MethodName)) ∈ lw_all := lw_g (lw_at lw_m5 193 rfl) rfl
theorem q1304 : (Jvm.Cond.selects "GingerRents" ({ cls := "GingerRents", name := "heard", desc := "(II)I" } : Jvm.MethodName) ({ cls := "GingerRents", name := "heard", desc := "(II)I" } : Jvm.MethodName)) ∈ lw_all := lw_g (lw_at lw_m5 194 rfl) rfl
theorem q1305 : (Jvm.Cond.code ({ cls := "GingerRents", name := "heard", desc := "(II)I" } : Jvm.MethodName) prog_1_method_31_code (5 : Nat) (Option.some Jvm.ClassFile.FieldType.int)) ∈ lw_all := lw_g (lw_at lw_m5 195 rfl) rfl
theorem q1307 : (Jvm.Cond.instanceMethod ({ cls := "GingerRents", name := "piece", desc := "(I)I" } : Jvm.MethodName)) ∈ lw_all := lw_g (lw_at lw_m5 197 rfl) rfl
theorem q1308 : (Jvm.Cond.selects "GingerRents" ({ cls := "GingerRents", name := "piece", desc := "(I)I" } : Jvm.MethodName) ({ cls := "GingerRents", name := "piece", desc := "(I)I" } : Jvm.MethodName)) ∈ lw_all := lw_g (lw_at lw_m5 198 rfl) rfl
theorem q1309 : (Jvm.Cond.code ({ cls := "GingerRents", name := "piece", desc := "(I)I" } : Jvm.MethodName) prog_1_method_32_code (2 : Nat) (Option.some Jvm.ClassFile.FieldType.int)) ∈ lw_all := lw_g (lw_at lw_m5 199 rfl) rfl
theorem q1310 : (Jvm.Cond.methodLink "GingerRents" (288 : Nat) ({ cls := "GingerRents$Rows", name := "ends", desc := "()I" } : Jvm.MethodName)) ∈ lw_all := lw_g (lw_at lw_m5 200 rfl) rfl
theorem q1314 : (Jvm.Cond.methodLink "GingerRents" (293 : Nat) ({ cls := "GingerRents$Rows", name := "tells", desc := "(II)I" } : Jvm.MethodName)) ∈ lw_all := lw_g (lw_at lw_m5 204 rfl) rfl
theorem q1319 : (Jvm.Cond.instanceMethod ({ cls := "GingerRents", name := "plate", desc := "(II)I" } : Jvm.MethodName)) ∈ lw_all := lw_g (lw_at lw_m5 209 rfl) rfl
theorem q1320 : (Jvm.Cond.selects "GingerRents" ({ cls := "GingerRents", name := "plate", desc := "(II)I" } : Jvm.MethodName) ({ cls := "GingerRents", name := "plate", desc := "(II)I" } : Jvm.MethodName)) ∈ lw_all := lw_g (lw_at lw_m5 210 rfl) rfl
theorem q1321 : (Jvm.Cond.code ({ cls := "GingerRents", name := "plate", desc := "(II)I" } : Jvm.MethodName) prog_1_method_35_code (4 : Nat) (Option.some Jvm.ClassFile.FieldType.int)) ∈ lw_all := lw_g (lw_at lw_m5 211 rfl) rfl
theorem q1322 : (Jvm.Cond.methodLink "GingerRents" (305 : Nat) ({ cls := "GingerRents", name := "laysShares", desc := "(I)V" } : Jvm.MethodName)) ∈ lw_all := lw_g (lw_at lw_m5 212 rfl) rfl
theorem q1323 : (Jvm.Cond.privateMethod ({ cls := "GingerRents", name := "laysShares", desc := "(I)V" } : Jvm.MethodName)) ∈ lw_tbl := lw_at lw_m5 213 rfl
theorem q1324 : (Jvm.Cond.instanceMethod ({ cls := "GingerRents", name := "laysShares", desc := "(I)V" } : Jvm.MethodName)) ∈ lw_all := lw_g (lw_at lw_m5 214 rfl) rfl
theorem q1325 : (Jvm.Cond.code ({ cls := "GingerRents", name := "laysShares", desc := "(I)V" } : Jvm.MethodName) prog_1_method_34_code (6 : Nat) (Option.none : Option Jvm.ClassFile.FieldType)) ∈ lw_all := lw_g (lw_at lw_m5 215 rfl) rfl
theorem q1326 : (Jvm.Cond.methodLink "GingerRents" (302 : Nat) ({ cls := "GingerRents", name := "share", desc := "(II)I" } : Jvm.MethodName)) ∈ lw_all := lw_g (lw_at lw_m5 216 rfl) rfl
theorem q1327 : (Jvm.Cond.privateMethod ({ cls := "GingerRents", name := "share", desc := "(II)I" } : Jvm.MethodName)) ∈ lw_tbl := lw_at lw_m5 217 rfl
theorem q1328 : (Jvm.Cond.instanceMethod ({ cls := "GingerRents", name := "share", desc := "(II)I" } : Jvm.MethodName)) ∈ lw_all := lw_g (lw_at lw_m5 218 rfl) rfl
theorem q1329 : (Jvm.Cond.code ({ cls := "GingerRents", name := "share", desc := "(II)I" } : Jvm.MethodName) prog_1_method_33_code (5 : Nat) (Option.some Jvm.ClassFile.FieldType.int)) ∈ lw_all := lw_g (lw_at lw_m5 219 rfl) rfl
theorem q1330 : (Jvm.Cond.methodLink "GingerRents" (296 : Nat) ({ cls := "GingerRents$Rows", name := "first", desc := "(I)I" } : Jvm.MethodName)) ∈ lw_all := lw_g (lw_at lw_m5 220 rfl) rfl
theorem q1335 : (Jvm.Cond.instanceMethod ({ cls := "GingerRents", name := "dough", desc := "(I)I" } : Jvm.MethodName)) ∈ lw_all := lw_g (lw_at lw_m5 225 rfl) rfl
theorem q1336 : (Jvm.Cond.selects "GingerRents" ({ cls := "GingerRents", name := "dough", desc := "(I)I" } : Jvm.MethodName) ({ cls := "GingerRents", name := "dough", desc := "(I)I" } : Jvm.MethodName)) ∈ lw_all := lw_g (lw_at lw_m5 226 rfl) rfl
theorem q1337 : (Jvm.Cond.code ({ cls := "GingerRents", name := "dough", desc := "(I)I" } : Jvm.MethodName) prog_1_method_36_code (2 : Nat) (Option.some Jvm.ClassFile.FieldType.int)) ∈ lw_all := lw_g (lw_at lw_m5 227 rfl) rfl
theorem q1339 : (Jvm.Cond.instanceMethod ({ cls := "GingerRents", name := "pans", desc := "(II)I" } : Jvm.MethodName)) ∈ lw_all := lw_g (lw_at lw_m5 229 rfl) rfl
theorem q1340 : (Jvm.Cond.selects "GingerRents" ({ cls := "GingerRents", name := "pans", desc := "(II)I" } : Jvm.MethodName) ({ cls := "GingerRents", name := "pans", desc := "(II)I" } : Jvm.MethodName)) ∈ lw_all := lw_g (lw_at lw_m5 230 rfl) rfl
theorem q1341 : (Jvm.Cond.code ({ cls := "GingerRents", name := "pans", desc := "(II)I" } : Jvm.MethodName) prog_1_method_39_code (6 : Nat) (Option.some Jvm.ClassFile.FieldType.int)) ∈ lw_all := lw_g (lw_at lw_m5 231 rfl) rfl
theorem q1342 : (Jvm.Cond.methodLink "GingerRents" (311 : Nat) ({ cls := "GingerRents", name := "byFirst", desc := "(I)I" } : Jvm.MethodName)) ∈ lw_all := lw_g (lw_at lw_m5 232 rfl) rfl
theorem q1343 : (Jvm.Cond.privateMethod ({ cls := "GingerRents", name := "byFirst", desc := "(I)I" } : Jvm.MethodName)) ∈ lw_tbl := lw_at lw_m5 233 rfl
theorem q1344 : (Jvm.Cond.instanceMethod ({ cls := "GingerRents", name := "byFirst", desc := "(I)I" } : Jvm.MethodName)) ∈ lw_all := lw_g (lw_at lw_m5 234 rfl) rfl
theorem q1345 : (Jvm.Cond.code ({ cls := "GingerRents", name := "byFirst", desc := "(I)I" } : Jvm.MethodName) prog_1_method_37_code (6 : Nat) (Option.some Jvm.ClassFile.FieldType.int)) ∈ lw_all := lw_g (lw_at lw_m5 235 rfl) rfl
theorem q1346 : (Jvm.Cond.methodLink "GingerRents" (314 : Nat) ({ cls := "GingerRents", name := "doughOf", desc := "(I)I" } : Jvm.MethodName)) ∈ lw_all := lw_g (lw_at lw_m5 236 rfl) rfl
theorem q1347 : (Jvm.Cond.privateMethod ({ cls := "GingerRents", name := "doughOf", desc := "(I)I" } : Jvm.MethodName)) ∈ lw_tbl := lw_at lw_m5 237 rfl
theorem q1348 : (Jvm.Cond.instanceMethod ({ cls := "GingerRents", name := "doughOf", desc := "(I)I" } : Jvm.MethodName)) ∈ lw_all := lw_g (lw_at lw_m5 238 rfl) rfl
theorem q1349 : (Jvm.Cond.code ({ cls := "GingerRents", name := "doughOf", desc := "(I)I" } : Jvm.MethodName) prog_1_method_38_code (4 : Nat) (Option.some Jvm.ClassFile.FieldType.int)) ∈ lw_all := lw_g (lw_at lw_m5 239 rfl) rfl
theorem q1351 : (Jvm.Cond.instanceMethod ({ cls := "GingerRents", name := "mortgage", desc := "(IIII)I" } : Jvm.MethodName)) ∈ lw_all := lw_g (lw_at lw_m6 1 rfl) rfl
theorem q1352 : (Jvm.Cond.selects "GingerRents" ({ cls := "GingerRents", name := "mortgage", desc := "(IIII)I" } : Jvm.MethodName) ({ cls := "GingerRents", name := "mortgage", desc := "(IIII)I" } : Jvm.MethodName)) ∈ lw_all := lw_g (lw_at lw_m6 2 rfl) rfl
theorem q1353 : (Jvm.Cond.code ({ cls := "GingerRents", name := "mortgage", desc := "(IIII)I" } : Jvm.MethodName) prog_1_method_40_code (9 : Nat) (Option.some Jvm.ClassFile.FieldType.int)) ∈ lw_all := lw_g (lw_at lw_m6 3 rfl) rfl
theorem q1355 : (Jvm.Cond.instanceMethod ({ cls := "GingerRents", name := "mark", desc := "(I)I" } : Jvm.MethodName)) ∈ lw_all := lw_g (lw_at lw_m6 5 rfl) rfl
theorem q1356 : (Jvm.Cond.selects "GingerRents" ({ cls := "GingerRents", name := "mark", desc := "(I)I" } : Jvm.MethodName) ({ cls := "GingerRents", name := "mark", desc := "(I)I" } : Jvm.MethodName)) ∈ lw_all := lw_g (lw_at lw_m6 6 rfl) rfl
theorem q1357 : (Jvm.Cond.code ({ cls := "GingerRents", name := "mark", desc := "(I)I" } : Jvm.MethodName) prog_1_method_41_code (2 : Nat) (Option.some Jvm.ClassFile.FieldType.int)) ∈ lw_all := lw_g (lw_at lw_m6 7 rfl) rfl
theorem q1359 : (Jvm.Cond.instanceMethod ({ cls := "GingerRents", name := "measures", desc := "(I)I" } : Jvm.MethodName)) ∈ lw_all := lw_g (lw_at lw_m6 9 rfl) rfl
theorem q1360 : (Jvm.Cond.selects "GingerRents" ({ cls := "GingerRents", name := "measures", desc := "(I)I" } : Jvm.MethodName) ({ cls := "GingerRents", name := "measures", desc := "(I)I" } : Jvm.MethodName)) ∈ lw_all := lw_g (lw_at lw_m6 10 rfl) rfl
theorem q1361 : (Jvm.Cond.code ({ cls := "GingerRents", name := "measures", desc := "(I)I" } : Jvm.MethodName) prog_1_method_43_code (5 : Nat) (Option.some Jvm.ClassFile.FieldType.int)) ∈ lw_all := lw_g (lw_at lw_m6 11 rfl) rfl
theorem q1362 : (Jvm.Cond.methodLink "GingerRents" (323 : Nat) ({ cls := "GingerRents", name := "isMeasured", desc := "(I)Z" } : Jvm.MethodName)) ∈ lw_all := lw_g (lw_at lw_m6 12 rfl) rfl
theorem q1363 : (Jvm.Cond.privateMethod ({ cls := "GingerRents", name := "isMeasured", desc := "(I)Z" } : Jvm.MethodName)) ∈ lw_tbl := lw_at lw_m6 13 rfl
theorem q1364 : (Jvm.Cond.instanceMethod ({ cls := "GingerRents", name := "isMeasured", desc := "(I)Z" } : Jvm.MethodName)) ∈ lw_all := lw_g (lw_at lw_m6 14 rfl) rfl
theorem q1365 : (Jvm.Cond.code ({ cls := "GingerRents", name := "isMeasured", desc := "(I)Z" } : Jvm.MethodName) prog_1_method_42_code (4 : Nat) (Option.some Jvm.ClassFile.FieldType.boolean)) ∈ lw_all := lw_g (lw_at lw_m6 15 rfl) rfl
theorem q1366 : (Jvm.Cond.methodLink "GingerRents" (320 : Nat) ({ cls := "java/lang/Math", name := "abs", desc := "(I)I" } : Jvm.MethodName)) ∈ lw_all := lw_g (lw_at lw_m6 16 rfl) rfl
theorem q1370 : (Jvm.Cond.instanceMethod ({ cls := "GingerRents", name := "bite", desc := "(II)I" } : Jvm.MethodName)) ∈ lw_all := lw_g (lw_at lw_m6 20 rfl) rfl
theorem q1371 : (Jvm.Cond.selects "GingerRents" ({ cls := "GingerRents", name := "bite", desc := "(II)I" } : Jvm.MethodName) ({ cls := "GingerRents", name := "bite", desc := "(II)I" } : Jvm.MethodName)) ∈ lw_all := lw_g (lw_at lw_m6 21 rfl) rfl
theorem q1372 : (Jvm.Cond.code ({ cls := "GingerRents", name := "bite", desc := "(II)I" } : Jvm.MethodName) prog_1_method_45_code (3 : Nat) (Option.some Jvm.ClassFile.FieldType.int)) ∈ lw_all := lw_g (lw_at lw_m6 22 rfl) rfl
theorem q1373 : (Jvm.Cond.methodLink "GingerRents" (329 : Nat) ({ cls := "GingerRents", name := "isBite", desc := "(II)Z" } : Jvm.MethodName)) ∈ lw_all := lw_g (lw_at lw_m6 23 rfl) rfl
theorem q1374 : (Jvm.Cond.static ({ cls := "GingerRents", name := "isBite", desc := "(II)Z" } : Jvm.MethodName)) ∈ lw_all := lw_g (lw_at lw_m6 24 rfl) rfl
theorem q1375 : (Jvm.Cond.code ({ cls := "GingerRents", name := "isBite", desc := "(II)Z" } : Jvm.MethodName) prog_1_method_44_code (2 : Nat) (Option.some Jvm.ClassFile.FieldType.boolean)) ∈ lw_all := lw_g (lw_at lw_m6 25 rfl) rfl
theorem q1377 : (Jvm.Cond.instanceMethod ({ cls := "GingerRents", name := "whose", desc := "(II)I" } : Jvm.MethodName)) ∈ lw_all := lw_g (lw_at lw_m6 27 rfl) rfl
theorem q1378 : (Jvm.Cond.selects "GingerRents" ({ cls := "GingerRents", name := "whose", desc := "(II)I" } : Jvm.MethodName) ({ cls := "GingerRents", name := "whose", desc := "(II)I" } : Jvm.MethodName)) ∈ lw_all := lw_g (lw_at lw_m6 28 rfl) rfl
theorem q1379 : (Jvm.Cond.code ({ cls := "GingerRents", name := "whose", desc := "(II)I" } : Jvm.MethodName) prog_1_method_46_code (5 : Nat) (Option.some Jvm.ClassFile.FieldType.int)) ∈ lw_all := lw_g (lw_at lw_m6 29 rfl) rfl
theorem q1380 : (Jvm.Cond.methodLink "GingerRents" (333 : Nat) ({ cls := "GingerRents$Rows", name := "second", desc := "(I)I" } : Jvm.MethodName)) ∈ lw_all := lw_g (lw_at lw_m6 30 rfl) rfl
theorem q1385 : (Jvm.Cond.instanceMethod ({ cls := "GingerRents", name := "crumb", desc := "(I)I" } : Jvm.MethodName)) ∈ lw_all := lw_g (lw_at lw_m6 35 rfl) rfl
theorem q1386 : (Jvm.Cond.selects "GingerRents" ({ cls := "GingerRents", name := "crumb", desc := "(I)I" } : Jvm.MethodName) ({ cls := "GingerRents", name := "crumb", desc := "(I)I" } : Jvm.MethodName)) ∈ lw_all := lw_g (lw_at lw_m6 36 rfl) rfl
theorem q1387 : (Jvm.Cond.code ({ cls := "GingerRents", name := "crumb", desc := "(I)I" } : Jvm.MethodName) prog_1_method_47_code (2 : Nat) (Option.some Jvm.ClassFile.FieldType.int)) ∈ lw_all := lw_g (lw_at lw_m6 37 rfl) rfl
theorem q1389 : (Jvm.Cond.instanceMethod ({ cls := "GingerRents", name := "crumbs", desc := "(I)I" } : Jvm.MethodName)) ∈ lw_all := lw_g (lw_at lw_m6 39 rfl) rfl
theorem q1390 : (Jvm.Cond.selects "GingerRents" ({ cls := "GingerRents", name := "crumbs", desc := "(I)I" } : Jvm.MethodName) ({ cls := "GingerRents", name := "crumbs", desc := "(I)I" } : Jvm.MethodName)) ∈ lw_all := lw_g (lw_at lw_m6 40 rfl) rfl
theorem q1391 : (Jvm.Cond.code ({ cls := "GingerRents", name := "crumbs", desc := "(I)I" } : Jvm.MethodName) prog_1_method_48_code (9 : Nat) (Option.some Jvm.ClassFile.FieldType.int)) ∈ lw_all := lw_g (lw_at lw_m6 41 rfl) rfl
theorem q1393 : (Jvm.Cond.instanceMethod ({ cls := "GingerRents", name := "loaf", desc := "(II)I" } : Jvm.MethodName)) ∈ lw_all := lw_g (lw_at lw_m6 43 rfl) rfl
theorem q1394 : (Jvm.Cond.selects "GingerRents" ({ cls := "GingerRents", name := "loaf", desc := "(II)I" } : Jvm.MethodName) ({ cls := "GingerRents", name := "loaf", desc := "(II)I" } : Jvm.MethodName)) ∈ lw_all := lw_g (lw_at lw_m6 44 rfl) rfl
theorem q1395 : (Jvm.Cond.code ({ cls := "GingerRents", name := "loaf", desc := "(II)I" } : Jvm.MethodName) prog_1_method_49_code (3 : Nat) (Option.some Jvm.ClassFile.FieldType.int)) ∈ lw_all := lw_g (lw_at lw_m6 45 rfl) rfl
theorem q1397 : (Jvm.Cond.instanceMethod ({ cls := "GingerRents", name := "ovens", desc := "(I)I" } : Jvm.MethodName)) ∈ lw_all := lw_g (lw_at lw_m6 47 rfl) rfl
theorem q1398 : (Jvm.Cond.selects "GingerRents" ({ cls := "GingerRents", name := "ovens", desc := "(I)I" } : Jvm.MethodName) ({ cls := "GingerRents", name := "ovens", desc := "(I)I" } : Jvm.MethodName)) ∈ lw_all := lw_g (lw_at lw_m6 48 rfl) rfl
theorem q1399 : (Jvm.Cond.code ({ cls := "GingerRents", name := "ovens", desc := "(I)I" } : Jvm.MethodName) prog_1_method_51_code (2 : Nat) (Option.some Jvm.ClassFile.FieldType.int)) ∈ lw_all := lw_g (lw_at lw_m6 49 rfl) rfl
theorem q1400 : (Jvm.Cond.methodLink "GingerRents" (345 : Nat) ({ cls := "GingerRents", name := "stand", desc := "(IIII)V" } : Jvm.MethodName)) ∈ lw_all := lw_g (lw_at lw_m6 50 rfl) rfl
theorem q1401 : (Jvm.Cond.privateMethod ({ cls := "GingerRents", name := "stand", desc := "(IIII)V" } : Jvm.MethodName)) ∈ lw_tbl := lw_at lw_m6 51 rfl
theorem q1402 : (Jvm.Cond.instanceMethod ({ cls := "GingerRents", name := "stand", desc := "(IIII)V" } : Jvm.MethodName)) ∈ lw_all := lw_g (lw_at lw_m6 52 rfl) rfl
theorem q1403 : (Jvm.Cond.code ({ cls := "GingerRents", name := "stand", desc := "(IIII)V" } : Jvm.MethodName) prog_1_method_50_code (8 : Nat) (Option.none : Option Jvm.ClassFile.FieldType)) ∈ lw_all := lw_g (lw_at lw_m6 53 rfl) rfl
theorem q1405 : (Jvm.Cond.instanceMethod ({ cls := "GingerRents", name := "alone", desc := "(I)I" } : Jvm.MethodName)) ∈ lw_all := lw_g (lw_at lw_m6 55 rfl) rfl
theorem q1406 : (Jvm.Cond.selects "GingerRents" ({ cls := "GingerRents", name := "alone", desc := "(I)I" } : Jvm.MethodName) ({ cls := "GingerRents", name := "alone", desc := "(I)I" } : Jvm.MethodName)) ∈ lw_all := lw_g (lw_at lw_m6 56 rfl) rfl
theorem q1407 : (Jvm.Cond.code ({ cls := "GingerRents", name := "alone", desc := "(I)I" } : Jvm.MethodName) prog_1_method_53_code (5 : Nat) (Option.some Jvm.ClassFile.FieldType.int)) ∈ lw_all := lw_g (lw_at lw_m6 57 rfl) rfl
theorem q1408 : (Jvm.Cond.methodLink "GingerRents" (349 : Nat) ({ cls := "GingerRents", name := "areAlone", desc := "(I)Z" } : Jvm.MethodName)) ∈ lw_all := lw_g (lw_at lw_m6 58 rfl) rfl
theorem q1409 : (Jvm.Cond.privateMethod ({ cls := "GingerRents", name := "areAlone", desc := "(I)Z" } : Jvm.MethodName)) ∈ lw_tbl := lw_at lw_m6 59 rfl
theorem q1410 : (Jvm.Cond.instanceMethod ({ cls := "GingerRents", name := "areAlone", desc := "(I)Z" } : Jvm.MethodName)) ∈ lw_all := lw_g (lw_at lw_m6 60 rfl) rfl
theorem q1411 : (Jvm.Cond.code ({ cls := "GingerRents", name := "areAlone", desc := "(I)Z" } : Jvm.MethodName) prog_1_method_52_code (3 : Nat) (Option.some Jvm.ClassFile.FieldType.boolean)) ∈ lw_all := lw_g (lw_at lw_m6 61 rfl) rfl
theorem q1413 : (Jvm.Cond.instanceMethod ({ cls := "GingerRents", name := "heir", desc := "(II)I" } : Jvm.MethodName)) ∈ lw_all := lw_g (lw_at lw_m6 63 rfl) rfl
theorem q1414 : (Jvm.Cond.selects "GingerRents" ({ cls := "GingerRents", name := "heir", desc := "(II)I" } : Jvm.MethodName) ({ cls := "GingerRents", name := "heir", desc := "(II)I" } : Jvm.MethodName)) ∈ lw_all := lw_g (lw_at lw_m6 64 rfl) rfl
theorem q1415 : (Jvm.Cond.code ({ cls := "GingerRents", name := "heir", desc := "(II)I" } : Jvm.MethodName) prog_1_method_54_code (3 : Nat) (Option.some Jvm.ClassFile.FieldType.int)) ∈ lw_all := lw_g (lw_at lw_m6 65 rfl) rfl
theorem q1417 : (Jvm.Cond.instanceMethod ({ cls := "GingerRents", name := "line", desc := "(II)I" } : Jvm.MethodName)) ∈ lw_all := lw_g (lw_at lw_m6 67 rfl) rfl
theorem q1418 : (Jvm.Cond.selects "GingerRents" ({ cls := "GingerRents", name := "line", desc := "(II)I" } : Jvm.MethodName) ({ cls := "GingerRents", name := "line", desc := "(II)I" } : Jvm.MethodName)) ∈ lw_all := lw_g (lw_at lw_m6 68 rfl) rfl
theorem q1419 : (Jvm.Cond.code ({ cls := "GingerRents", name := "line", desc := "(II)I" } : Jvm.MethodName) prog_1_method_56_code (5 : Nat) (Option.some Jvm.ClassFile.FieldType.int)) ∈ lw_all := lw_g (lw_at lw_m6 69 rfl) rfl
theorem q1420 : (Jvm.Cond.methodLink "GingerRents" (355 : Nat) ({ cls := "GingerRents", name := "ahead", desc := "(I)I" } : Jvm.MethodName)) ∈ lw_all := lw_g (lw_at lw_m6 70 rfl) rfl
theorem q1421 : (Jvm.Cond.privateMethod ({ cls := "GingerRents", name := "ahead", desc := "(I)I" } : Jvm.MethodName)) ∈ lw_tbl := lw_at lw_m6 71 rfl
theorem q1422 : (Jvm.Cond.instanceMethod ({ cls := "GingerRents", name := "ahead", desc := "(I)I" } : Jvm.MethodName)) ∈ lw_all := lw_g (lw_at lw_m6 72 rfl) rfl
theorem q1423 : (Jvm.Cond.code ({ cls := "GingerRents", name := "ahead", desc := "(I)I" } : Jvm.MethodName) prog_1_method_55_code (3 : Nat) (Option.some Jvm.ClassFile.FieldType.int)) ∈ lw_all := lw_g (lw_at lw_m6 73 rfl) rfl
theorem q1425 : (Jvm.Cond.instanceMethod ({ cls := "GingerRents", name := "window", desc := "(I)I" } : Jvm.MethodName)) ∈ lw_all := lw_g (lw_at lw_m6 75 rfl) rfl
theorem q1426 : (Jvm.Cond.selects "GingerRents" ({ cls := "GingerRents", name := "window", desc := "(I)I" } : Jvm.MethodName) ({ cls := "GingerRents", name := "window", desc := "(I)I" } : Jvm.MethodName)) ∈ lw_all := lw_g (lw_at lw_m6 76 rfl) rfl
theorem q1427 : (Jvm.Cond.code ({ cls := "GingerRents", name := "window", desc := "(I)I" } : Jvm.MethodName) prog_1_method_57_code (6 : Nat) (Option.some Jvm.ClassFile.FieldType.int)) ∈ lw_all := lw_g (lw_at lw_m6 77 rfl) rfl
theorem q1429 : (Jvm.Cond.instanceMethod ({ cls := "GingerRents", name := "member", desc := "(II)I" } : Jvm.MethodName)) ∈ lw_all := lw_g (lw_at lw_m6 79 rfl) rfl
theorem q1430 : (Jvm.Cond.selects "GingerRents" ({ cls := "GingerRents", name := "member", desc := "(II)I" } : Jvm.MethodName) ({ cls := "GingerRents", name := "member", desc := "(II)I" } : Jvm.MethodName)) ∈ lw_all := lw_g (lw_at lw_m6 80 rfl) rfl
theorem q1431 : (Jvm.Cond.code ({ cls := "GingerRents", name := "member", desc := "(II)I" } : Jvm.MethodName) prog_1_method_58_code (3 : Nat) (Option.some Jvm.ClassFile.FieldType.int)) ∈ lw_all := lw_g (lw_at lw_m6 81 rfl) rfl
theorem q1433 : (Jvm.Cond.instanceMethod ({ cls := "GingerRents", name := "council", desc := "(I)I" } : Jvm.MethodName)) ∈ lw_all := lw_g (lw_at lw_m6 83 rfl) rfl
theorem q1434 : (Jvm.Cond.selects "GingerRents" ({ cls := "GingerRents", name := "council", desc := "(I)I" } : Jvm.MethodName) ({ cls := "GingerRents", name := "council", desc := "(I)I" } : Jvm.MethodName)) ∈ lw_all := lw_g (lw_at lw_m6 84 rfl) rfl
theorem q1435 : (Jvm.Cond.code ({ cls := "GingerRents", name := "council", desc := "(I)I" } : Jvm.MethodName) prog_1_method_61_code (6 : Nat) (Option.some Jvm.ClassFile.FieldType.int)) ∈ lw_all := lw_g (lw_at lw_m6 85 rfl) rfl
theorem q1436 : (Jvm.Cond.methodLink "GingerRents" (361 : Nat) ({ cls := "GingerRents", name := "wanting", desc := "(I)I" } : Jvm.MethodName)) ∈ lw_all := lw_g (lw_at lw_m6 86 rfl) rfl
theorem q1437 : (Jvm.Cond.privateMethod ({ cls := "GingerRents", name := "wanting", desc := "(I)I" } : Jvm.MethodName)) ∈ lw_tbl := lw_at lw_m6 87 rfl
theorem q1438 : (Jvm.Cond.instanceMethod ({ cls := "GingerRents", name := "wanting", desc := "(I)I" } : Jvm.MethodName)) ∈ lw_all := lw_g (lw_at lw_m6 88 rfl) rfl
theorem q1439 : (Jvm.Cond.code ({ cls := "GingerRents", name := "wanting", desc := "(I)I" } : Jvm.MethodName) prog_1_method_60_code (4 : Nat) (Option.some Jvm.ClassFile.FieldType.int)) ∈ lw_all := lw_g (lw_at lw_m6 89 rfl) rfl
theorem q1440 : (Jvm.Cond.methodLink "GingerRents" (364 : Nat) ({ cls := "GingerRents", name := "weights", desc := "(I)I" } : Jvm.MethodName)) ∈ lw_all := lw_g (lw_at lw_m6 90 rfl) rfl
theorem q1441 : (Jvm.Cond.privateMethod ({ cls := "GingerRents", name := "weights", desc := "(I)I" } : Jvm.MethodName)) ∈ lw_tbl := lw_at lw_m6 91 rfl
theorem q1442 : (Jvm.Cond.instanceMethod ({ cls := "GingerRents", name := "weights", desc := "(I)I" } : Jvm.MethodName)) ∈ lw_all := lw_g (lw_at lw_m6 92 rfl) rfl
theorem q1443 : (Jvm.Cond.code ({ cls := "GingerRents", name := "weights", desc := "(I)I" } : Jvm.MethodName) prog_1_method_59_code (4 : Nat) (Option.some Jvm.ClassFile.FieldType.int)) ∈ lw_all := lw_g (lw_at lw_m6 93 rfl) rfl
theorem q1445 : (Jvm.Cond.instanceMethod ({ cls := "GingerRents", name := "game", desc := "(II)I" } : Jvm.MethodName)) ∈ lw_all := lw_g (lw_at lw_m6 95 rfl) rfl
theorem q1446 : (Jvm.Cond.selects "GingerRents" ({ cls := "GingerRents", name := "game", desc := "(II)I" } : Jvm.MethodName) ({ cls := "GingerRents", name := "game", desc := "(II)I" } : Jvm.MethodName)) ∈ lw_all := lw_g (lw_at lw_m6 96 rfl) rfl
theorem q1447 : (Jvm.Cond.code ({ cls := "GingerRents", name := "game", desc := "(II)I" } : Jvm.MethodName) prog_1_method_66_code (5 : Nat) (Option.some Jvm.ClassFile.FieldType.int)) ∈ lw_all := lw_g (lw_at lw_m6 97 rfl) rfl
theorem q1448 : (Jvm.Cond.methodLink "GingerRents" (377 : Nat) ({ cls := "GingerRents", name := "winning", desc := "(I)I" } : Jvm.MethodName)) ∈ lw_all := lw_g (lw_at lw_m6 98 rfl) rfl
theorem q1449 : (Jvm.Cond.privateMethod ({ cls := "GingerRents", name := "winning", desc := "(I)I" } : Jvm.MethodName)) ∈ lw_tbl := lw_at lw_m6 99 rfl
theorem q1450 : (Jvm.Cond.instanceMethod ({ cls := "GingerRents", name := "winning", desc := "(I)I" } : Jvm.MethodName)) ∈ lw_all := lw_g (lw_at lw_m6 100 rfl) rfl
theorem q1451 : (Jvm.Cond.code ({ cls := "GingerRents", name := "winning", desc := "(I)I" } : Jvm.MethodName) prog_1_method_64_code (4 : Nat) (Option.some Jvm.ClassFile.FieldType.int)) ∈ lw_all := lw_g (lw_at lw_m6 101 rfl) rfl
theorem q1452 : (Jvm.Cond.methodLink "GingerRents" (367 : Nat) ({ cls := "GingerRents", name := "far", desc := "(II)I" } : Jvm.MethodName)) ∈ lw_all := lw_g (lw_at lw_m6 102 rfl) rfl
theorem q1453 : (Jvm.Cond.static ({ cls := "GingerRents", name := "far", desc := "(II)I" } : Jvm.MethodName)) ∈ lw_all := lw_g (lw_at lw_m6 103 rfl) rfl
theorem q1454 : (Jvm.Cond.code ({ cls := "GingerRents", name := "far", desc := "(II)I" } : Jvm.MethodName) prog_1_method_63_code (4 : Nat) (Option.some Jvm.ClassFile.FieldType.int)) ∈ lw_all := lw_g (lw_at lw_m6 104 rfl) rfl
theorem q1455 : (Jvm.Cond.methodLink "GingerRents" (370 : Nat) ({ cls := "GingerRents", name := "bitten", desc := "(III)I" } : Jvm.MethodName)) ∈ lw_all := lw_g (lw_at lw_m6 105 rfl) rfl
theorem q1456 : (Jvm.Cond.static ({ cls := "GingerRents", name := "bitten", desc := "(III)I" } : Jvm.MethodName)) ∈ lw_all := lw_g (lw_at lw_m6 106 rfl) rfl
theorem q1457 : (Jvm.Cond.code ({ cls := "GingerRents", name := "bitten", desc := "(III)I" } : Jvm.MethodName) prog_1_method_62_code (8 : Nat) (Option.some Jvm.ClassFile.FieldType.int)) ∈ lw_all := lw_g (lw_at lw_m6 107 rfl) rfl
theorem q1458 : (Jvm.Cond.methodLink "GingerRents" (374 : Nat) ({ cls := "GingerRents", name := "lost", desc := "(I)Z" } : Jvm.MethodName)) ∈ lw_all := lw_g (lw_at lw_m6 108 rfl) rfl
theorem q1459 : (Jvm.Cond.privateMethod ({ cls := "GingerRents", name := "lost", desc := "(I)Z" } : Jvm.MethodName)) ∈ lw_tbl := lw_at lw_m6 109 rfl
theorem q1460 : (Jvm.Cond.instanceMethod ({ cls := "GingerRents", name := "lost", desc := "(I)Z" } : Jvm.MethodName)) ∈ lw_all := lw_g (lw_at lw_m6 110 rfl) rfl
theorem q1461 : (Jvm.Cond.code ({ cls := "GingerRents", name := "lost", desc := "(I)Z" } : Jvm.MethodName) prog_1_method_65_code (2 : Nat) (Option.some Jvm.ClassFile.FieldType.boolean)) ∈ lw_all := lw_g (lw_at lw_m6 111 rfl) rfl
theorem q1463 : (Jvm.Cond.instanceMethod ({ cls := "GingerRents", name := "image", desc := "(Z)Z" } : Jvm.MethodName)) ∈ lw_all := lw_g (lw_at lw_m6 113 rfl) rfl
theorem q1464 : (Jvm.Cond.selects "GingerRents" ({ cls := "GingerRents", name := "image", desc := "(Z)Z" } : Jvm.MethodName) ({ cls := "GingerRents", name := "image", desc := "(Z)Z" } : Jvm.MethodName)) ∈ lw_all := lw_g (lw_at lw_m6 114 rfl) rfl
theorem q1465 : (Jvm.Cond.code ({ cls := "GingerRents", name := "image", desc := "(Z)Z" } : Jvm.MethodName) prog_1_method_67_code (2 : Nat) (Option.some Jvm.ClassFile.FieldType.boolean)) ∈ lw_all := lw_g (lw_at lw_m6 115 rfl) rfl
theorem q1466 : (Jvm.Cond.methodLink "GingerRents" (383 : Nat) ({ cls := "GingerRents$Borough", name := "takes", desc := "(LGingerRents$Borough;)V" } : Jvm.MethodName)) ∈ lw_all := lw_g (lw_at lw_m6 116 rfl) rfl
theorem q1476 : (Jvm.Cond.instanceMethod ({ cls := "GingerRents", name := "look", desc := "(I)I" } : Jvm.MethodName)) ∈ lw_all := lw_g (lw_at lw_m6 126 rfl) rfl
theorem q1477 : (Jvm.Cond.selects "GingerRents" ({ cls := "GingerRents", name := "look", desc := "(I)I" } : Jvm.MethodName) ({ cls := "GingerRents", name := "look", desc := "(I)I" } : Jvm.MethodName)) ∈ lw_all := lw_g (lw_at lw_m6 127 rfl) rfl
theorem q1478 : (Jvm.Cond.code ({ cls := "GingerRents", name := "look", desc := "(I)I" } : Jvm.MethodName) prog_1_method_68_code (2 : Nat) (Option.some Jvm.ClassFile.FieldType.int)) ∈ lw_all := lw_g (lw_at lw_m6 128 rfl) rfl
theorem q2260 : (Jvm.Cond.castable "GingerRents" "java/lang/Object") ∈ lw_tbl := lw_at lw_m9 190 rfl
theorem in_X0 : ∀ w ∈ wsX00, w ∈ lw_all := lw_in wsX00 [427, 429, 431, 433, 435, 437, 439, 441, 443, 445, 447, 449, 451, 453, 455, 457, 459, 461, 463] (by decide +kernel) (by decide +kernel)
