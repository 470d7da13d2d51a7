/-! GingerRents$Borough -/
set_option maxRecDepth 100000
def RX1 : String := "GingerRents$Borough"
def TX1 : u_T := fun k => match k with
  | 0 => ("GingerRents$Borough", "house", "[LGingerRents$House;", true)
  | 1 => ("GingerRents$Borough", "book", "[[I", true)
  | 2 => ("GingerRents$Borough", "pieces", "LGingerRents$Rows;", true)
  | 3 => ("GingerRents$Borough", "doughs", "LGingerRents$Rows;", true)
  | 4 => ("GingerRents$Borough", "marks", "LGingerRents$Rows;", true)
  | 5 => ("GingerRents$Borough", "bites", "LGingerRents$Rows;", true)
  | 6 => ("GingerRents$Borough", "crumbs", "LGingerRents$Rows;", true)
  | 7 => ("GingerRents$Borough", "loaves", "LGingerRents$Rows;", true)
  | 8 => ("GingerRents$Borough", "heirs", "LGingerRents$Rows;", true)
  | 9 => ("GingerRents$Borough", "members", "LGingerRents$Rows;", true)
  | 10 => ("GingerRents$Borough", "law", "Ljava/util/ArrayList;", false)
  | 11 => ("GingerRents$Borough", "sky", "Ljava/util/ArrayList;", false)
  | 12 => ("GingerRents$Borough", "office", "Ljava/util/ArrayList;", false)
  | 13 => ("GingerRents$Borough", "nextTo", "[I", false)
  | 14 => ("GingerRents$Borough", "houses", "I", false)
  | 15 => ("GingerRents$Borough", "rain", "I", false)
  | 16 => ("GingerRents$Borough", "frost", "I", false)
  | 17 => ("GingerRents$Borough", "eaten", "I", false)
  | 18 => ("GingerRents$Borough", "gnawed", "I", false)
  | 19 => ("GingerRents$Borough", "quarter", "I", false)
  | 20 => ("GingerRents$Borough", "state", "I", false)
  | 21 => ("GingerRents$Borough", "lines", "I", false)
  | 22 => ("GingerRents$Borough", "nextLines", "I", false)
  | 23 => ("GingerRents$Borough", "isThought", "Z", false)
  | 24 => ("GingerRents$Borough", "asked", "LGingerRents$House;", false)
  | _ => ("GingerRents$Borough", "askedWall", "I", false)
def tyX1 : Nat → FieldType := fun k => match k with
  | 0 => .array (.object "GingerRents$House")
  | 1 => .array (.array .int)
  | 2 => .object "GingerRents$Rows"
  | 3 => .object "GingerRents$Rows"
  | 4 => .object "GingerRents$Rows"
  | 5 => .object "GingerRents$Rows"
  | 6 => .object "GingerRents$Rows"
  | 7 => .object "GingerRents$Rows"
  | 8 => .object "GingerRents$Rows"
  | 9 => .object "GingerRents$Rows"
  | 10 => .object "java/util/ArrayList"
  | 11 => .object "java/util/ArrayList"
  | 12 => .object "java/util/ArrayList"
  | 13 => .array .int
  | 14 => .int
  | 15 => .int
  | 16 => .int
  | 17 => .int
  | 18 => .int
  | 19 => .int
  | 20 => .int
  | 21 => .int
  | 22 => .int
  | 23 => .boolean
  | 24 => .object "GingerRents$House"
  | _ => .int
abbrev wsX10 : List Cond := u_ws RX1 TX1 26
set_option maxRecDepth 100000 in
theorem nmX1 : ∀ a, a < 26 → ∀ b, b < 26 → a ≠ b → (TX1 a).2.1 ≠ (TX1 b).2.1 := by decide +kernel
set_option maxRecDepth 100000 in
theorem tyX1_ok : ∀ k, k < 26 → parseFieldDescriptor (TX1 k).2.2.1 = some (tyX1 k) := by decide +kernel
abbrev cX1_init : ByteArray := prog_4_method_1_code
def yX1_init : MethodName := ⟨RX1, "<init>", "()V"⟩
def dkwX1_init_8 : List UInt8 := [187, 0, 9, 89, 183, 0, 69, 83, 132, 1, 1, 167, 255, 234, 177]
abbrev dktX1_init_8 : List UInt8 := dkwX1_init_8 ++ []
def dkwX1_init_7 : List UInt8 := [181, 0, 62, 42, 16, 12, 188, 10, 181, 0, 65, 3, 60, 27, 16, 12, 162, 0, 22, 42, 180, 0, 11, 27]
abbrev dktX1_init_7 : List UInt8 := dkwX1_init_7 ++ dktX1_init_8
def dkwX1_init_6 : List UInt8 := [181, 0, 55, 42, 187, 0, 52, 89, 183, 0, 54, 181, 0, 59, 42, 187, 0, 52, 89, 183, 0, 54]
abbrev dktX1_init_6 : List UInt8 := dkwX1_init_6 ++ dktX1_init_7
def dkwX1_init_5 : List UInt8 := [181, 0, 46, 42, 187, 0, 22, 89, 16, 8, 183, 0, 24, 181, 0, 49, 42, 187, 0, 52, 89, 183, 0, 54]
abbrev dktX1_init_5 : List UInt8 := dkwX1_init_5 ++ dktX1_init_6
def dkwX1_init_4 : List UInt8 := [187, 0, 22, 89, 16, 6, 183, 0, 24, 181, 0, 43, 42, 187, 0, 22, 89, 16, 12, 183, 0, 24]
abbrev dktX1_init_4 : List UInt8 := dkwX1_init_4 ++ dktX1_init_5
def dkwX1_init_3 : List UInt8 := [16, 8, 183, 0, 24, 181, 0, 37, 42, 187, 0, 22, 89, 16, 16, 183, 0, 24, 181, 0, 40, 42]
abbrev dktX1_init_3 : List UInt8 := dkwX1_init_3 ++ dktX1_init_4
def dkwX1_init_2 : List UInt8 := [183, 0, 24, 181, 0, 31, 42, 187, 0, 22, 89, 8, 183, 0, 24, 181, 0, 34, 42, 187, 0, 22, 89]
abbrev dktX1_init_2 : List UInt8 := dkwX1_init_2 ++ dktX1_init_3
def dkwX1_init_1 : List UInt8 := [181, 0, 19, 42, 187, 0, 22, 89, 16, 9, 183, 0, 24, 181, 0, 27, 42, 187, 0, 22, 89, 16, 8]
abbrev dktX1_init_1 : List UInt8 := dkwX1_init_1 ++ dktX1_init_2
def dkwX1_init_0 : List UInt8 := [42, 183, 0, 3, 42, 16, 12, 189, 0, 9, 181, 0, 11, 42, 17, 0, 150, 7, 197, 0, 17, 2]
abbrev dktX1_init_0 : List UInt8 := dkwX1_init_0 ++ dktX1_init_1
theorem dksX1_init_0 : cX1_init.data.toList.drop 0 = dktX1_init_0 := by decide +kernel
theorem dksX1_init_1 : cX1_init.data.toList.drop 22 = dktX1_init_1 := dk_seg dksX1_init_0 22 rfl rfl
theorem dksX1_init_2 : cX1_init.data.toList.drop 45 = dktX1_init_2 := dk_seg dksX1_init_1 23 rfl rfl
theorem dksX1_init_3 : cX1_init.data.toList.drop 68 = dktX1_init_3 := dk_seg dksX1_init_2 23 rfl rfl
theorem dksX1_init_4 : cX1_init.data.toList.drop 90 = dktX1_init_4 := dk_seg dksX1_init_3 22 rfl rfl
theorem dksX1_init_5 : cX1_init.data.toList.drop 112 = dktX1_init_5 := dk_seg dksX1_init_4 22 rfl rfl
theorem dksX1_init_6 : cX1_init.data.toList.drop 136 = dktX1_init_6 := dk_seg dksX1_init_5 24 rfl rfl
theorem dksX1_init_7 : cX1_init.data.toList.drop 158 = dktX1_init_7 := dk_seg dksX1_init_6 22 rfl rfl
theorem dksX1_init_8 : cX1_init.data.toList.drop 182 = dktX1_init_8 := dk_seg dksX1_init_7 24 rfl rfl
theorem dX1_init_0 : decode cX1_init 0 = .ok (.aload_n 0, 1) := dk_42 (dk_at dksX1_init_0 0 rfl rfl)
theorem dX1_init_1 : decode cX1_init 1 = .ok (.invokespecial 3, 3) := dk_183 0 3 (dk_at dksX1_init_0 1 rfl rfl)
theorem dX1_init_4 : decode cX1_init 4 = .ok (.aload_n 0, 1) := dk_42 (dk_at dksX1_init_0 4 rfl rfl)
theorem dX1_init_5 : decode cX1_init 5 = .ok (.bipush 12, 2) := dk_16 12 (dk_at dksX1_init_0 5 rfl rfl)
theorem dX1_init_7 : decode cX1_init 7 = .ok (.anewarray 9, 3) := dk_189 0 9 (dk_at dksX1_init_0 7 rfl rfl)
theorem dX1_init_10 : decode cX1_init 10 = .ok (.putfield 11, 3) := dk_181 0 11 (dk_at dksX1_init_0 10 rfl rfl)
theorem dX1_init_13 : decode cX1_init 13 = .ok (.aload_n 0, 1) := dk_42 (dk_at dksX1_init_0 13 rfl rfl)
theorem dX1_init_14 : decode cX1_init 14 = .ok (.sipush 150, 3) := dk_17 0 150 (dk_at dksX1_init_0 14 rfl rfl)
theorem dX1_init_17 : decode cX1_init 17 = .ok (.iconst 4, 1) := dk_7 (dk_at dksX1_init_0 17 rfl rfl)
theorem dX1_init_18 : decode cX1_init 18 = .ok (.multianewarray 17 2, 4) := by decide +kernel
theorem dX1_init_22 : decode cX1_init 22 = .ok (.putfield 19, 3) := dk_181 0 19 (dk_at dksX1_init_1 0 rfl rfl)
theorem dX1_init_25 : decode cX1_init 25 = .ok (.aload_n 0, 1) := dk_42 (dk_at dksX1_init_1 3 rfl rfl)
theorem dX1_init_26 : decode cX1_init 26 = .ok (.new 22, 3) := dk_187 0 22 (dk_at dksX1_init_1 4 rfl rfl)
theorem dX1_init_29 : decode cX1_init 29 = .ok (.dup, 1) := dk_89 (dk_at dksX1_init_1 7 rfl rfl)
theorem dX1_init_30 : decode cX1_init 30 = .ok (.bipush 9, 2) := dk_16 9 (dk_at dksX1_init_1 8 rfl rfl)
theorem dX1_init_32 : decode cX1_init 32 = .ok (.invokespecial 24, 3) := dk_183 0 24 (dk_at dksX1_init_1 10 rfl rfl)
theorem dX1_init_35 : decode cX1_init 35 = .ok (.putfield 27, 3) := dk_181 0 27 (dk_at dksX1_init_1 13 rfl rfl)
theorem dX1_init_38 : decode cX1_init 38 = .ok (.aload_n 0, 1) := dk_42 (dk_at dksX1_init_1 16 rfl rfl)
theorem dX1_init_39 : decode cX1_init 39 = .ok (.new 22, 3) := dk_187 0 22 (dk_at dksX1_init_1 17 rfl rfl)
theorem dX1_init_42 : decode cX1_init 42 = .ok (.dup, 1) := dk_89 (dk_at dksX1_init_1 20 rfl rfl)
theorem dX1_init_43 : decode cX1_init 43 = .ok (.bipush 8, 2) := dk_16 8 (dk_at dksX1_init_1 21 rfl rfl)
theorem dX1_init_45 : decode cX1_init 45 = .ok (.invokespecial 24, 3) := dk_183 0 24 (dk_at dksX1_init_2 0 rfl rfl)
theorem dX1_init_48 : decode cX1_init 48 = .ok (.putfield 31, 3) := dk_181 0 31 (dk_at dksX1_init_2 3 rfl rfl)
theorem dX1_init_51 : decode cX1_init 51 = .ok (.aload_n 0, 1) := dk_42 (dk_at dksX1_init_2 6 rfl rfl)
theorem dX1_init_52 : decode cX1_init 52 = .ok (.new 22, 3) := dk_187 0 22 (dk_at dksX1_init_2 7 rfl rfl)
theorem dX1_init_55 : decode cX1_init 55 = .ok (.dup, 1) := dk_89 (dk_at dksX1_init_2 10 rfl rfl)
theorem dX1_init_56 : decode cX1_init 56 = .ok (.iconst 5, 1) := dk_8 (dk_at dksX1_init_2 11 rfl rfl)
theorem dX1_init_57 : decode cX1_init 57 = .ok (.invokespecial 24, 3) := dk_183 0 24 (dk_at dksX1_init_2 12 rfl rfl)
theorem dX1_init_60 : decode cX1_init 60 = .ok (.putfield 34, 3) := dk_181 0 34 (dk_at dksX1_init_2 15 rfl rfl)
theorem dX1_init_63 : decode cX1_init 63 = .ok (.aload_n 0, 1) := dk_42 (dk_at dksX1_init_2 18 rfl rfl)
theorem dX1_init_64 : decode cX1_init 64 = .ok (.new 22, 3) := dk_187 0 22 (dk_at dksX1_init_2 19 rfl rfl)
theorem dX1_init_67 : decode cX1_init 67 = .ok (.dup, 1) := dk_89 (dk_at dksX1_init_2 22 rfl rfl)
theorem dX1_init_68 : decode cX1_init 68 = .ok (.bipush 8, 2) := dk_16 8 (dk_at dksX1_init_3 0 rfl rfl)
theorem dX1_init_70 : decode cX1_init 70 = .ok (.invokespecial 24, 3) := dk_183 0 24 (dk_at dksX1_init_3 2 rfl rfl)
theorem dX1_init_73 : decode cX1_init 73 = .ok (.putfield 37, 3) := dk_181 0 37 (dk_at dksX1_init_3 5 rfl rfl)
theorem dX1_init_76 : decode cX1_init 76 = .ok (.aload_n 0, 1) := dk_42 (dk_at dksX1_init_3 8 rfl rfl)
theorem dX1_init_77 : decode cX1_init 77 = .ok (.new 22, 3) := dk_187 0 22 (dk_at dksX1_init_3 9 rfl rfl)
theorem dX1_init_80 : decode cX1_init 80 = .ok (.dup, 1) := dk_89 (dk_at dksX1_init_3 12 rfl rfl)
theorem dX1_init_81 : decode cX1_init 81 = .ok (.bipush 16, 2) := dk_16 16 (dk_at dksX1_init_3 13 rfl rfl)
theorem dX1_init_83 : decode cX1_init 83 = .ok (.invokespecial 24, 3) := dk_183 0 24 (dk_at dksX1_init_3 15 rfl rfl)
theorem dX1_init_86 : decode cX1_init 86 = .ok (.putfield 40, 3) := dk_181 0 40 (dk_at dksX1_init_3 18 rfl rfl)
theorem dX1_init_89 : decode cX1_init 89 = .ok (.aload_n 0, 1) := dk_42 (dk_at dksX1_init_3 21 rfl rfl)
theorem dX1_init_90 : decode cX1_init 90 = .ok (.new 22, 3) := dk_187 0 22 (dk_at dksX1_init_4 0 rfl rfl)
theorem dX1_init_93 : decode cX1_init 93 = .ok (.dup, 1) := dk_89 (dk_at dksX1_init_4 3 rfl rfl)
theorem dX1_init_94 : decode cX1_init 94 = .ok (.bipush 6, 2) := dk_16 6 (dk_at dksX1_init_4 4 rfl rfl)
theorem dX1_init_96 : decode cX1_init 96 = .ok (.invokespecial 24, 3) := dk_183 0 24 (dk_at dksX1_init_4 6 rfl rfl)
theorem dX1_init_99 : decode cX1_init 99 = .ok (.putfield 43, 3) := dk_181 0 43 (dk_at dksX1_init_4 9 rfl rfl)
theorem dX1_init_102 : decode cX1_init 102 = .ok (.aload_n 0, 1) := dk_42 (dk_at dksX1_init_4 12 rfl rfl)
theorem dX1_init_103 : decode cX1_init 103 = .ok (.new 22, 3) := dk_187 0 22 (dk_at dksX1_init_4 13 rfl rfl)
theorem dX1_init_106 : decode cX1_init 106 = .ok (.dup, 1) := dk_89 (dk_at dksX1_init_4 16 rfl rfl)
theorem dX1_init_107 : decode cX1_init 107 = .ok (.bipush 12, 2) := dk_16 12 (dk_at dksX1_init_4 17 rfl rfl)
theorem dX1_init_109 : decode cX1_init 109 = .ok (.invokespecial 24, 3) := dk_183 0 24 (dk_at dksX1_init_4 19 rfl rfl)
theorem dX1_init_112 : decode cX1_init 112 = .ok (.putfield 46, 3) := dk_181 0 46 (dk_at dksX1_init_5 0 rfl rfl)
theorem dX1_init_115 : decode cX1_init 115 = .ok (.aload_n 0, 1) := dk_42 (dk_at dksX1_init_5 3 rfl rfl)
theorem dX1_init_116 : decode cX1_init 116 = .ok (.new 22, 3) := dk_187 0 22 (dk_at dksX1_init_5 4 rfl rfl)
theorem dX1_init_119 : decode cX1_init 119 = .ok (.dup, 1) := dk_89 (dk_at dksX1_init_5 7 rfl rfl)
theorem dX1_init_120 : decode cX1_init 120 = .ok (.bipush 8, 2) := dk_16 8 (dk_at dksX1_init_5 8 rfl rfl)
theorem dX1_init_122 : decode cX1_init 122 = .ok (.invokespecial 24, 3) := dk_183 0 24 (dk_at dksX1_init_5 10 rfl rfl)
theorem dX1_init_125 : decode cX1_init 125 = .ok (.putfield 49, 3) := dk_181 0 49 (dk_at dksX1_init_5 13 rfl rfl)
theorem dX1_init_128 : decode cX1_init 128 = .ok (.aload_n 0, 1) := dk_42 (dk_at dksX1_init_5 16 rfl rfl)
theorem dX1_init_129 : decode cX1_init 129 = .ok (.new 52, 3) := dk_187 0 52 (dk_at dksX1_init_5 17 rfl rfl)
theorem dX1_init_132 : decode cX1_init 132 = .ok (.dup, 1) := dk_89 (dk_at dksX1_init_5 20 rfl rfl)
theorem dX1_init_133 : decode cX1_init 133 = .ok (.invokespecial 54, 3) := dk_183 0 54 (dk_at dksX1_init_5 21 rfl rfl)
theorem dX1_init_136 : decode cX1_init 136 = .ok (.putfield 55, 3) := dk_181 0 55 (dk_at dksX1_init_6 0 rfl rfl)
theorem dX1_init_139 : decode cX1_init 139 = .ok (.aload_n 0, 1) := dk_42 (dk_at dksX1_init_6 3 rfl rfl)
theorem dX1_init_140 : decode cX1_init 140 = .ok (.new 52, 3) := dk_187 0 52 (dk_at dksX1_init_6 4 rfl rfl)
theorem dX1_init_143 : decode cX1_init 143 = .ok (.dup, 1) := dk_89 (dk_at dksX1_init_6 7 rfl rfl)
theorem dX1_init_144 : decode cX1_init 144 = .ok (.invokespecial 54, 3) := dk_183 0 54 (dk_at dksX1_init_6 8 rfl rfl)
theorem dX1_init_147 : decode cX1_init 147 = .ok (.putfield 59, 3) := dk_181 0 59 (dk_at dksX1_init_6 11 rfl rfl)
theorem dX1_init_150 : decode cX1_init 150 = .ok (.aload_n 0, 1) := dk_42 (dk_at dksX1_init_6 14 rfl rfl)
theorem dX1_init_151 : decode cX1_init 151 = .ok (.new 52, 3) := dk_187 0 52 (dk_at dksX1_init_6 15 rfl rfl)
theorem dX1_init_154 : decode cX1_init 154 = .ok (.dup, 1) := dk_89 (dk_at dksX1_init_6 18 rfl rfl)
theorem dX1_init_155 : decode cX1_init 155 = .ok (.invokespecial 54, 3) := dk_183 0 54 (dk_at dksX1_init_6 19 rfl rfl)
theorem dX1_init_158 : decode cX1_init 158 = .ok (.putfield 62, 3) := dk_181 0 62 (dk_at dksX1_init_7 0 rfl rfl)
theorem dX1_init_161 : decode cX1_init 161 = .ok (.aload_n 0, 1) := dk_42 (dk_at dksX1_init_7 3 rfl rfl)
theorem dX1_init_162 : decode cX1_init 162 = .ok (.bipush 12, 2) := dk_16 12 (dk_at dksX1_init_7 4 rfl rfl)
theorem dX1_init_164 : decode cX1_init 164 = .ok (.newarray .int, 2) := dk_188_10 (dk_at dksX1_init_7 6 rfl rfl)
theorem dX1_init_166 : decode cX1_init 166 = .ok (.putfield 65, 3) := dk_181 0 65 (dk_at dksX1_init_7 8 rfl rfl)
theorem dX1_init_169 : decode cX1_init 169 = .ok (.iconst 0, 1) := dk_3 (dk_at dksX1_init_7 11 rfl rfl)
theorem dX1_init_170 : decode cX1_init 170 = .ok (.istore_n 1, 1) := dk_60 (dk_at dksX1_init_7 12 rfl rfl)
theorem dX1_init_171 : decode cX1_init 171 = .ok (.iload_n 1, 1) := dk_27 (dk_at dksX1_init_7 13 rfl rfl)
theorem dX1_init_172 : decode cX1_init 172 = .ok (.bipush 12, 2) := dk_16 12 (dk_at dksX1_init_7 14 rfl rfl)
theorem dX1_init_174 : decode cX1_init 174 = .ok (.if_icmp .ge 22, 3) := dk_162 0 22 (dk_at dksX1_init_7 16 rfl rfl)
theorem dX1_init_177 : decode cX1_init 177 = .ok (.aload_n 0, 1) := dk_42 (dk_at dksX1_init_7 19 rfl rfl)
theorem dX1_init_178 : decode cX1_init 178 = .ok (.getfield 11, 3) := dk_180 0 11 (dk_at dksX1_init_7 20 rfl rfl)
theorem dX1_init_181 : decode cX1_init 181 = .ok (.iload_n 1, 1) := dk_27 (dk_at dksX1_init_7 23 rfl rfl)
theorem dX1_init_182 : decode cX1_init 182 = .ok (.new 9, 3) := dk_187 0 9 (dk_at dksX1_init_8 0 rfl rfl)
theorem dX1_init_185 : decode cX1_init 185 = .ok (.dup, 1) := dk_89 (dk_at dksX1_init_8 3 rfl rfl)
theorem dX1_init_186 : decode cX1_init 186 = .ok (.invokespecial 69, 3) := dk_183 0 69 (dk_at dksX1_init_8 4 rfl rfl)
theorem dX1_init_189 : decode cX1_init 189 = .ok (.aastore, 1) := dk_83 (dk_at dksX1_init_8 7 rfl rfl)
theorem dX1_init_190 : decode cX1_init 190 = .ok (.iinc 1 1, 3) := dk_132 1 1 (dk_at dksX1_init_8 8 rfl rfl)
theorem dX1_init_193 : decode cX1_init 193 = .ok (.goto (-22), 3) := dk_167 255 234 (dk_at dksX1_init_8 11 rfl rfl)
theorem dX1_init_196 : decode cX1_init 196 = .ok (.return_, 1) := dk_177 (dk_at dksX1_init_8 14 rfl rfl)
abbrev cX1_moves : ByteArray := prog_4_method_2_code
def yX1_moves : MethodName := ⟨RX1, "moves", "(LGingerRents$Borough;)V"⟩
def dkwX1_moves_3 : List UInt8 := [180, 0, 90, 181, 0, 90, 42, 43, 180, 0, 93, 181, 0, 93, 177]
abbrev dktX1_moves_3 : List UInt8 := dkwX1_moves_3 ++ []
def dkwX1_moves_2 : List UInt8 := [180, 0, 81, 181, 0, 81, 42, 43, 180, 0, 84, 181, 0, 84, 42, 43, 180, 0, 87, 181, 0, 87, 42, 43]
abbrev dktX1_moves_2 : List UInt8 := dkwX1_moves_2 ++ dktX1_moves_3
def dkwX1_moves_1 : List UInt8 := [132, 2, 1, 167, 255, 232, 42, 43, 180, 0, 74, 181, 0, 74, 42, 43, 180, 0, 78, 181, 0, 78, 42, 43]
abbrev dktX1_moves_1 : List UInt8 := dkwX1_moves_1 ++ dktX1_moves_2
def dkwX1_moves_0 : List UInt8 := [3, 61, 28, 16, 12, 162, 0, 24, 42, 180, 0, 11, 28, 50, 43, 180, 0, 11, 28, 50, 182, 0, 70]
abbrev dktX1_moves_0 : List UInt8 := dkwX1_moves_0 ++ dktX1_moves_1
theorem dksX1_moves_0 : cX1_moves.data.toList.drop 0 = dktX1_moves_0 := by decide +kernel
theorem dksX1_moves_1 : cX1_moves.data.toList.drop 23 = dktX1_moves_1 := dk_seg dksX1_moves_0 23 rfl rfl
theorem dksX1_moves_2 : cX1_moves.data.toList.drop 47 = dktX1_moves_2 := dk_seg dksX1_moves_1 24 rfl rfl
theorem dksX1_moves_3 : cX1_moves.data.toList.drop 71 = dktX1_moves_3 := dk_seg dksX1_moves_2 24 rfl rfl
theorem dX1_moves_0 : decode cX1_moves 0 = .ok (.iconst 0, 1) := dk_3 (dk_at dksX1_moves_0 0 rfl rfl)
theorem dX1_moves_1 : decode cX1_moves 1 = .ok (.istore_n 2, 1) := dk_61 (dk_at dksX1_moves_0 1 rfl rfl)
theorem dX1_moves_2 : decode cX1_moves 2 = .ok (.iload_n 2, 1) := dk_28 (dk_at dksX1_moves_0 2 rfl rfl)
theorem dX1_moves_3 : decode cX1_moves 3 = .ok (.bipush 12, 2) := dk_16 12 (dk_at dksX1_moves_0 3 rfl rfl)
theorem dX1_moves_5 : decode cX1_moves 5 = .ok (.if_icmp .ge 24, 3) := dk_162 0 24 (dk_at dksX1_moves_0 5 rfl rfl)
theorem dX1_moves_8 : decode cX1_moves 8 = .ok (.aload_n 0, 1) := dk_42 (dk_at dksX1_moves_0 8 rfl rfl)
theorem dX1_moves_9 : decode cX1_moves 9 = .ok (.getfield 11, 3) := dk_180 0 11 (dk_at dksX1_moves_0 9 rfl rfl)
theorem dX1_moves_12 : decode cX1_moves 12 = .ok (.iload_n 2, 1) := dk_28 (dk_at dksX1_moves_0 12 rfl rfl)
theorem dX1_moves_13 : decode cX1_moves 13 = .ok (.aaload, 1) := dk_50 (dk_at dksX1_moves_0 13 rfl rfl)
theorem dX1_moves_14 : decode cX1_moves 14 = .ok (.aload_n 1, 1) := dk_43 (dk_at dksX1_moves_0 14 rfl rfl)
theorem dX1_moves_15 : decode cX1_moves 15 = .ok (.getfield 11, 3) := dk_180 0 11 (dk_at dksX1_moves_0 15 rfl rfl)
theorem dX1_moves_18 : decode cX1_moves 18 = .ok (.iload_n 2, 1) := dk_28 (dk_at dksX1_moves_0 18 rfl rfl)
theorem dX1_moves_19 : decode cX1_moves 19 = .ok (.aaload, 1) := dk_50 (dk_at dksX1_moves_0 19 rfl rfl)
theorem dX1_moves_20 : decode cX1_moves 20 = .ok (.invokevirtual 70, 3) := dk_182 0 70 (dk_at dksX1_moves_0 20 rfl rfl)
theorem dX1_moves_23 : decode cX1_moves 23 = .ok (.iinc 2 1, 3) := dk_132 2 1 (dk_at dksX1_moves_1 0 rfl rfl)
theorem dX1_moves_26 : decode cX1_moves 26 = .ok (.goto (-24), 3) := dk_167 255 232 (dk_at dksX1_moves_1 3 rfl rfl)
theorem dX1_moves_29 : decode cX1_moves 29 = .ok (.aload_n 0, 1) := dk_42 (dk_at dksX1_moves_1 6 rfl rfl)
theorem dX1_moves_30 : decode cX1_moves 30 = .ok (.aload_n 1, 1) := dk_43 (dk_at dksX1_moves_1 7 rfl rfl)
theorem dX1_moves_31 : decode cX1_moves 31 = .ok (.getfield 74, 3) := dk_180 0 74 (dk_at dksX1_moves_1 8 rfl rfl)
theorem dX1_moves_34 : decode cX1_moves 34 = .ok (.putfield 74, 3) := dk_181 0 74 (dk_at dksX1_moves_1 11 rfl rfl)
theorem dX1_moves_37 : decode cX1_moves 37 = .ok (.aload_n 0, 1) := dk_42 (dk_at dksX1_moves_1 14 rfl rfl)
theorem dX1_moves_38 : decode cX1_moves 38 = .ok (.aload_n 1, 1) := dk_43 (dk_at dksX1_moves_1 15 rfl rfl)
theorem dX1_moves_39 : decode cX1_moves 39 = .ok (.getfield 78, 3) := dk_180 0 78 (dk_at dksX1_moves_1 16 rfl rfl)
theorem dX1_moves_42 : decode cX1_moves 42 = .ok (.putfield 78, 3) := dk_181 0 78 (dk_at dksX1_moves_1 19 rfl rfl)
theorem dX1_moves_45 : decode cX1_moves 45 = .ok (.aload_n 0, 1) := dk_42 (dk_at dksX1_moves_1 22 rfl rfl)
theorem dX1_moves_46 : decode cX1_moves 46 = .ok (.aload_n 1, 1) := dk_43 (dk_at dksX1_moves_1 23 rfl rfl)
theorem dX1_moves_47 : decode cX1_moves 47 = .ok (.getfield 81, 3) := dk_180 0 81 (dk_at dksX1_moves_2 0 rfl rfl)
theorem dX1_moves_50 : decode cX1_moves 50 = .ok (.putfield 81, 3) := dk_181 0 81 (dk_at dksX1_moves_2 3 rfl rfl)
theorem dX1_moves_53 : decode cX1_moves 53 = .ok (.aload_n 0, 1) := dk_42 (dk_at dksX1_moves_2 6 rfl rfl)
theorem dX1_moves_54 : decode cX1_moves 54 = .ok (.aload_n 1, 1) := dk_43 (dk_at dksX1_moves_2 7 rfl rfl)
theorem dX1_moves_55 : decode cX1_moves 55 = .ok (.getfield 84, 3) := dk_180 0 84 (dk_at dksX1_moves_2 8 rfl rfl)
theorem dX1_moves_58 : decode cX1_moves 58 = .ok (.putfield 84, 3) := dk_181 0 84 (dk_at dksX1_moves_2 11 rfl rfl)
theorem dX1_moves_61 : decode cX1_moves 61 = .ok (.aload_n 0, 1) := dk_42 (dk_at dksX1_moves_2 14 rfl rfl)
theorem dX1_moves_62 : decode cX1_moves 62 = .ok (.aload_n 1, 1) := dk_43 (dk_at dksX1_moves_2 15 rfl rfl)
theorem dX1_moves_63 : decode cX1_moves 63 = .ok (.getfield 87, 3) := dk_180 0 87 (dk_at dksX1_moves_2 16 rfl rfl)
theorem dX1_moves_66 : decode cX1_moves 66 = .ok (.putfield 87, 3) := dk_181 0 87 (dk_at dksX1_moves_2 19 rfl rfl)
theorem dX1_moves_69 : decode cX1_moves 69 = .ok (.aload_n 0, 1) := dk_42 (dk_at dksX1_moves_2 22 rfl rfl)
theorem dX1_moves_70 : decode cX1_moves 70 = .ok (.aload_n 1, 1) := dk_43 (dk_at dksX1_moves_2 23 rfl rfl)
theorem dX1_moves_71 : decode cX1_moves 71 = .ok (.getfield 90, 3) := dk_180 0 90 (dk_at dksX1_moves_3 0 rfl rfl)
theorem dX1_moves_74 : decode cX1_moves 74 = .ok (.putfield 90, 3) := dk_181 0 90 (dk_at dksX1_moves_3 3 rfl rfl)
theorem dX1_moves_77 : decode cX1_moves 77 = .ok (.aload_n 0, 1) := dk_42 (dk_at dksX1_moves_3 6 rfl rfl)
theorem dX1_moves_78 : decode cX1_moves 78 = .ok (.aload_n 1, 1) := dk_43 (dk_at dksX1_moves_3 7 rfl rfl)
theorem dX1_moves_79 : decode cX1_moves 79 = .ok (.getfield 93, 3) := dk_180 0 93 (dk_at dksX1_moves_3 8 rfl rfl)
theorem dX1_moves_82 : decode cX1_moves 82 = .ok (.putfield 93, 3) := dk_181 0 93 (dk_at dksX1_moves_3 11 rfl rfl)
theorem dX1_moves_85 : decode cX1_moves 85 = .ok (.return_, 1) := dk_177 (dk_at dksX1_moves_3 14 rfl rfl)
abbrev cX1_canWed : ByteArray := prog_4_method_16_code
def yX1_canWed : MethodName := ⟨RX1, "canWed", "(I)Z"⟩
def dkwX1_canWed_1 : List UInt8 := [42, 180, 0, 11, 27, 50, 180, 0, 152, 158, 0, 7, 4, 167, 0, 4, 3, 172]
abbrev dktX1_canWed_1 : List UInt8 := dkwX1_canWed_1 ++ []
def dkwX1_canWed_0 : List UInt8 := [42, 180, 0, 11, 27, 50, 182, 0, 122, 153, 0, 31, 42, 180, 0, 11, 27, 50, 180, 0, 155, 154, 0, 19]
abbrev dktX1_canWed_0 : List UInt8 := dkwX1_canWed_0 ++ dktX1_canWed_1
theorem dksX1_canWed_0 : cX1_canWed.data.toList.drop 0 = dktX1_canWed_0 := by decide +kernel
theorem dksX1_canWed_1 : cX1_canWed.data.toList.drop 24 = dktX1_canWed_1 := dk_seg dksX1_canWed_0 24 rfl rfl
theorem dX1_canWed_0 : decode cX1_canWed 0 = .ok (.aload_n 0, 1) := dk_42 (dk_at dksX1_canWed_0 0 rfl rfl)
theorem dX1_canWed_1 : decode cX1_canWed 1 = .ok (.getfield 11, 3) := dk_180 0 11 (dk_at dksX1_canWed_0 1 rfl rfl)
theorem dX1_canWed_4 : decode cX1_canWed 4 = .ok (.iload_n 1, 1) := dk_27 (dk_at dksX1_canWed_0 4 rfl rfl)
theorem dX1_canWed_5 : decode cX1_canWed 5 = .ok (.aaload, 1) := dk_50 (dk_at dksX1_canWed_0 5 rfl rfl)
theorem dX1_canWed_6 : decode cX1_canWed 6 = .ok (.invokevirtual 122, 3) := dk_182 0 122 (dk_at dksX1_canWed_0 6 rfl rfl)
theorem dX1_canWed_9 : decode cX1_canWed 9 = .ok (.ifCond .eq 31, 3) := dk_153 0 31 (dk_at dksX1_canWed_0 9 rfl rfl)
theorem dX1_canWed_12 : decode cX1_canWed 12 = .ok (.aload_n 0, 1) := dk_42 (dk_at dksX1_canWed_0 12 rfl rfl)
theorem dX1_canWed_13 : decode cX1_canWed 13 = .ok (.getfield 11, 3) := dk_180 0 11 (dk_at dksX1_canWed_0 13 rfl rfl)
theorem dX1_canWed_16 : decode cX1_canWed 16 = .ok (.iload_n 1, 1) := dk_27 (dk_at dksX1_canWed_0 16 rfl rfl)
theorem dX1_canWed_17 : decode cX1_canWed 17 = .ok (.aaload, 1) := dk_50 (dk_at dksX1_canWed_0 17 rfl rfl)
theorem dX1_canWed_18 : decode cX1_canWed 18 = .ok (.getfield 155, 3) := dk_180 0 155 (dk_at dksX1_canWed_0 18 rfl rfl)
theorem dX1_canWed_21 : decode cX1_canWed 21 = .ok (.ifCond .ne 19, 3) := dk_154 0 19 (dk_at dksX1_canWed_0 21 rfl rfl)
theorem dX1_canWed_24 : decode cX1_canWed 24 = .ok (.aload_n 0, 1) := dk_42 (dk_at dksX1_canWed_1 0 rfl rfl)
theorem dX1_canWed_25 : decode cX1_canWed 25 = .ok (.getfield 11, 3) := dk_180 0 11 (dk_at dksX1_canWed_1 1 rfl rfl)
theorem dX1_canWed_28 : decode cX1_canWed 28 = .ok (.iload_n 1, 1) := dk_27 (dk_at dksX1_canWed_1 4 rfl rfl)
theorem dX1_canWed_29 : decode cX1_canWed 29 = .ok (.aaload, 1) := dk_50 (dk_at dksX1_canWed_1 5 rfl rfl)
theorem dX1_canWed_30 : decode cX1_canWed 30 = .ok (.getfield 152, 3) := dk_180 0 152 (dk_at dksX1_canWed_1 6 rfl rfl)
theorem dX1_canWed_33 : decode cX1_canWed 33 = .ok (.ifCond .le 7, 3) := dk_158 0 7 (dk_at dksX1_canWed_1 9 rfl rfl)
theorem dX1_canWed_36 : decode cX1_canWed 36 = .ok (.iconst 1, 1) := dk_4 (dk_at dksX1_canWed_1 12 rfl rfl)
theorem dX1_canWed_37 : decode cX1_canWed 37 = .ok (.goto 4, 3) := dk_167 0 4 (dk_at dksX1_canWed_1 13 rfl rfl)
theorem dX1_canWed_40 : decode cX1_canWed 40 = .ok (.iconst 0, 1) := dk_3 (dk_at dksX1_canWed_1 16 rfl rfl)
theorem dX1_canWed_41 : decode cX1_canWed 41 = .ok (.ireturn, 1) := dk_172 (dk_at dksX1_canWed_1 17 rfl rfl)
abbrev cX1_weds : ByteArray := prog_4_method_17_code
def yX1_weds : MethodName := ⟨RX1, "weds", "(I)V"⟩
def dkwX1_weds_2 : List UInt8 := [177]
abbrev dktX1_weds_2 : List UInt8 := dkwX1_weds_2 ++ []
def dkwX1_weds_1 : List UInt8 := [89, 180, 0, 152, 4, 96, 181, 0, 152, 42, 8, 27, 44, 180, 0, 152, 182, 0, 118, 42, 27, 182, 0, 213]
abbrev dktX1_weds_1 : List UInt8 := dkwX1_weds_1 ++ dktX1_weds_2
def dkwX1_weds_0 : List UInt8 := [42, 180, 0, 11, 27, 50, 77, 44, 4, 181, 0, 155, 44, 44, 182, 0, 190, 16, 10, 182, 0, 209, 87, 44]
abbrev dktX1_weds_0 : List UInt8 := dkwX1_weds_0 ++ dktX1_weds_1
theorem dksX1_weds_0 : cX1_weds.data.toList.drop 0 = dktX1_weds_0 := by decide +kernel
theorem dksX1_weds_1 : cX1_weds.data.toList.drop 24 = dktX1_weds_1 := dk_seg dksX1_weds_0 24 rfl rfl
theorem dksX1_weds_2 : cX1_weds.data.toList.drop 48 = dktX1_weds_2 := dk_seg dksX1_weds_1 24 rfl rfl
theorem dX1_weds_0 : decode cX1_weds 0 = .ok (.aload_n 0, 1) := dk_42 (dk_at dksX1_weds_0 0 rfl rfl)
theorem dX1_weds_1 : decode cX1_weds 1 = .ok (.getfield 11, 3) := dk_180 0 11 (dk_at dksX1_weds_0 1 rfl rfl)
theorem dX1_weds_4 : decode cX1_weds 4 = .ok (.iload_n 1, 1) := dk_27 (dk_at dksX1_weds_0 4 rfl rfl)
theorem dX1_weds_5 : decode cX1_weds 5 = .ok (.aaload, 1) := dk_50 (dk_at dksX1_weds_0 5 rfl rfl)
theorem dX1_weds_6 : decode cX1_weds 6 = .ok (.astore_n 2, 1) := dk_77 (dk_at dksX1_weds_0 6 rfl rfl)
theorem dX1_weds_7 : decode cX1_weds 7 = .ok (.aload_n 2, 1) := dk_44 (dk_at dksX1_weds_0 7 rfl rfl)
theorem dX1_weds_8 : decode cX1_weds 8 = .ok (.iconst 1, 1) := dk_4 (dk_at dksX1_weds_0 8 rfl rfl)
theorem dX1_weds_9 : decode cX1_weds 9 = .ok (.putfield 155, 3) := dk_181 0 155 (dk_at dksX1_weds_0 9 rfl rfl)
theorem dX1_weds_12 : decode cX1_weds 12 = .ok (.aload_n 2, 1) := dk_44 (dk_at dksX1_weds_0 12 rfl rfl)
theorem dX1_weds_13 : decode cX1_weds 13 = .ok (.aload_n 2, 1) := dk_44 (dk_at dksX1_weds_0 13 rfl rfl)
theorem dX1_weds_14 : decode cX1_weds 14 = .ok (.invokevirtual 190, 3) := dk_182 0 190 (dk_at dksX1_weds_0 14 rfl rfl)
theorem dX1_weds_17 : decode cX1_weds 17 = .ok (.bipush 10, 2) := dk_16 10 (dk_at dksX1_weds_0 17 rfl rfl)
theorem dX1_weds_19 : decode cX1_weds 19 = .ok (.invokevirtual 209, 3) := dk_182 0 209 (dk_at dksX1_weds_0 19 rfl rfl)
theorem dX1_weds_22 : decode cX1_weds 22 = .ok (.pop, 1) := dk_87 (dk_at dksX1_weds_0 22 rfl rfl)
theorem dX1_weds_23 : decode cX1_weds 23 = .ok (.aload_n 2, 1) := dk_44 (dk_at dksX1_weds_0 23 rfl rfl)
theorem dX1_weds_24 : decode cX1_weds 24 = .ok (.dup, 1) := dk_89 (dk_at dksX1_weds_1 0 rfl rfl)
theorem dX1_weds_25 : decode cX1_weds 25 = .ok (.getfield 152, 3) := dk_180 0 152 (dk_at dksX1_weds_1 1 rfl rfl)
theorem dX1_weds_28 : decode cX1_weds 28 = .ok (.iconst 1, 1) := dk_4 (dk_at dksX1_weds_1 4 rfl rfl)
theorem dX1_weds_29 : decode cX1_weds 29 = .ok (.iadd, 1) := dk_96 (dk_at dksX1_weds_1 5 rfl rfl)
theorem dX1_weds_30 : decode cX1_weds 30 = .ok (.putfield 152, 3) := dk_181 0 152 (dk_at dksX1_weds_1 6 rfl rfl)
theorem dX1_weds_33 : decode cX1_weds 33 = .ok (.aload_n 0, 1) := dk_42 (dk_at dksX1_weds_1 9 rfl rfl)
theorem dX1_weds_34 : decode cX1_weds 34 = .ok (.iconst 5, 1) := dk_8 (dk_at dksX1_weds_1 10 rfl rfl)
theorem dX1_weds_35 : decode cX1_weds 35 = .ok (.iload_n 1, 1) := dk_27 (dk_at dksX1_weds_1 11 rfl rfl)
theorem dX1_weds_36 : decode cX1_weds 36 = .ok (.aload_n 2, 1) := dk_44 (dk_at dksX1_weds_1 12 rfl rfl)
theorem dX1_weds_37 : decode cX1_weds 37 = .ok (.getfield 152, 3) := dk_180 0 152 (dk_at dksX1_weds_1 13 rfl rfl)
theorem dX1_weds_40 : decode cX1_weds 40 = .ok (.invokevirtual 118, 3) := dk_182 0 118 (dk_at dksX1_weds_1 16 rfl rfl)
theorem dX1_weds_43 : decode cX1_weds 43 = .ok (.aload_n 0, 1) := dk_42 (dk_at dksX1_weds_1 19 rfl rfl)
theorem dX1_weds_44 : decode cX1_weds 44 = .ok (.iload_n 1, 1) := dk_27 (dk_at dksX1_weds_1 20 rfl rfl)
theorem dX1_weds_45 : decode cX1_weds 45 = .ok (.invokevirtual 213, 3) := dk_182 0 213 (dk_at dksX1_weds_1 21 rfl rfl)
theorem dX1_weds_48 : decode cX1_weds 48 = .ok (.return_, 1) := dk_177 (dk_at dksX1_weds_2 0 rfl rfl)
abbrev cX1_notes : ByteArray := prog_4_method_6_code
def yX1_notes : MethodName := ⟨RX1, "notes", "(III)V"⟩
def dkwX1_notes_2 : List UInt8 := [25, 4, 6, 29, 79, 42, 89, 180, 0, 93, 4, 96, 181, 0, 93, 177]
abbrev dktX1_notes_2 : List UInt8 := dkwX1_notes_2 ++ []
def dkwX1_notes_1 : List UInt8 := [180, 0, 93, 50, 58, 4, 25, 4, 3, 42, 180, 0, 87, 79, 25, 4, 4, 27, 79, 25, 4, 5, 28, 79]
abbrev dktX1_notes_1 : List UInt8 := dkwX1_notes_1 ++ dktX1_notes_2
def dkwX1_notes_0 : List UInt8 := [42, 180, 0, 114, 154, 0, 13, 42, 180, 0, 93, 17, 0, 150, 160, 0, 4, 177, 42, 180, 0, 19, 42]
abbrev dktX1_notes_0 : List UInt8 := dkwX1_notes_0 ++ dktX1_notes_1
theorem dksX1_notes_0 : cX1_notes.data.toList.drop 0 = dktX1_notes_0 := by decide +kernel
theorem dksX1_notes_1 : cX1_notes.data.toList.drop 23 = dktX1_notes_1 := dk_seg dksX1_notes_0 23 rfl rfl
theorem dksX1_notes_2 : cX1_notes.data.toList.drop 47 = dktX1_notes_2 := dk_seg dksX1_notes_1 24 rfl rfl
theorem dX1_notes_0 : decode cX1_notes 0 = .ok (.aload_n 0, 1) := dk_42 (dk_at dksX1_notes_0 0 rfl rfl)
theorem dX1_notes_1 : decode cX1_notes 1 = .ok (.getfield 114, 3) := dk_180 0 114 (dk_at dksX1_notes_0 1 rfl rfl)
theorem dX1_notes_4 : decode cX1_notes 4 = .ok (.ifCond .ne 13, 3) := dk_154 0 13 (dk_at dksX1_notes_0 4 rfl rfl)
theorem dX1_notes_7 : decode cX1_notes 7 = .ok (.aload_n 0, 1) := dk_42 (dk_at dksX1_notes_0 7 rfl rfl)
theorem dX1_notes_8 : decode cX1_notes 8 = .ok (.getfield 93, 3) := dk_180 0 93 (dk_at dksX1_notes_0 8 rfl rfl)
theorem dX1_notes_11 : decode cX1_notes 11 = .ok (.sipush 150, 3) := dk_17 0 150 (dk_at dksX1_notes_0 11 rfl rfl)
theorem dX1_notes_14 : decode cX1_notes 14 = .ok (.if_icmp .ne 4, 3) := dk_160 0 4 (dk_at dksX1_notes_0 14 rfl rfl)
theorem dX1_notes_17 : decode cX1_notes 17 = .ok (.return_, 1) := dk_177 (dk_at dksX1_notes_0 17 rfl rfl)
theorem dX1_notes_18 : decode cX1_notes 18 = .ok (.aload_n 0, 1) := dk_42 (dk_at dksX1_notes_0 18 rfl rfl)
theorem dX1_notes_19 : decode cX1_notes 19 = .ok (.getfield 19, 3) := dk_180 0 19 (dk_at dksX1_notes_0 19 rfl rfl)
theorem dX1_notes_22 : decode cX1_notes 22 = .ok (.aload_n 0, 1) := dk_42 (dk_at dksX1_notes_0 22 rfl rfl)
theorem dX1_notes_23 : decode cX1_notes 23 = .ok (.getfield 93, 3) := dk_180 0 93 (dk_at dksX1_notes_1 0 rfl rfl)
theorem dX1_notes_26 : decode cX1_notes 26 = .ok (.aaload, 1) := dk_50 (dk_at dksX1_notes_1 3 rfl rfl)
theorem dX1_notes_27 : decode cX1_notes 27 = .ok (.astore 4, 2) := dk_58 4 (dk_at dksX1_notes_1 4 rfl rfl)
theorem dX1_notes_29 : decode cX1_notes 29 = .ok (.aload 4, 2) := dk_25 4 (dk_at dksX1_notes_1 6 rfl rfl)
theorem dX1_notes_31 : decode cX1_notes 31 = .ok (.iconst 0, 1) := dk_3 (dk_at dksX1_notes_1 8 rfl rfl)
theorem dX1_notes_32 : decode cX1_notes 32 = .ok (.aload_n 0, 1) := dk_42 (dk_at dksX1_notes_1 9 rfl rfl)
theorem dX1_notes_33 : decode cX1_notes 33 = .ok (.getfield 87, 3) := dk_180 0 87 (dk_at dksX1_notes_1 10 rfl rfl)
theorem dX1_notes_36 : decode cX1_notes 36 = .ok (.iastore, 1) := dk_79 (dk_at dksX1_notes_1 13 rfl rfl)
theorem dX1_notes_37 : decode cX1_notes 37 = .ok (.aload 4, 2) := dk_25 4 (dk_at dksX1_notes_1 14 rfl rfl)
theorem dX1_notes_39 : decode cX1_notes 39 = .ok (.iconst 1, 1) := dk_4 (dk_at dksX1_notes_1 16 rfl rfl)
theorem dX1_notes_40 : decode cX1_notes 40 = .ok (.iload_n 1, 1) := dk_27 (dk_at dksX1_notes_1 17 rfl rfl)
theorem dX1_notes_41 : decode cX1_notes 41 = .ok (.iastore, 1) := dk_79 (dk_at dksX1_notes_1 18 rfl rfl)
theorem dX1_notes_42 : decode cX1_notes 42 = .ok (.aload 4, 2) := dk_25 4 (dk_at dksX1_notes_1 19 rfl rfl)
theorem dX1_notes_44 : decode cX1_notes 44 = .ok (.iconst 2, 1) := dk_5 (dk_at dksX1_notes_1 21 rfl rfl)
theorem dX1_notes_45 : decode cX1_notes 45 = .ok (.iload_n 2, 1) := dk_28 (dk_at dksX1_notes_1 22 rfl rfl)
theorem dX1_notes_46 : decode cX1_notes 46 = .ok (.iastore, 1) := dk_79 (dk_at dksX1_notes_1 23 rfl rfl)
theorem dX1_notes_47 : decode cX1_notes 47 = .ok (.aload 4, 2) := dk_25 4 (dk_at dksX1_notes_2 0 rfl rfl)
theorem dX1_notes_49 : decode cX1_notes 49 = .ok (.iconst 3, 1) := dk_6 (dk_at dksX1_notes_2 2 rfl rfl)
theorem dX1_notes_50 : decode cX1_notes 50 = .ok (.iload_n 3, 1) := dk_29 (dk_at dksX1_notes_2 3 rfl rfl)
theorem dX1_notes_51 : decode cX1_notes 51 = .ok (.iastore, 1) := dk_79 (dk_at dksX1_notes_2 4 rfl rfl)
theorem dX1_notes_52 : decode cX1_notes 52 = .ok (.aload_n 0, 1) := dk_42 (dk_at dksX1_notes_2 5 rfl rfl)
theorem dX1_notes_53 : decode cX1_notes 53 = .ok (.dup, 1) := dk_89 (dk_at dksX1_notes_2 6 rfl rfl)
theorem dX1_notes_54 : decode cX1_notes 54 = .ok (.getfield 93, 3) := dk_180 0 93 (dk_at dksX1_notes_2 7 rfl rfl)
theorem dX1_notes_57 : decode cX1_notes 57 = .ok (.iconst 1, 1) := dk_4 (dk_at dksX1_notes_2 10 rfl rfl)
theorem dX1_notes_58 : decode cX1_notes 58 = .ok (.iadd, 1) := dk_96 (dk_at dksX1_notes_2 11 rfl rfl)
theorem dX1_notes_59 : decode cX1_notes 59 = .ok (.putfield 93, 3) := dk_181 0 93 (dk_at dksX1_notes_2 12 rfl rfl)
theorem dX1_notes_62 : decode cX1_notes 62 = .ok (.return_, 1) := dk_177 (dk_at dksX1_notes_2 15 rfl rfl)
abbrev cX1_leaves : ByteArray := prog_4_method_15_code
def yX1_leaves : MethodName := ⟨RX1, "leaves", "(I)V"⟩
def dkwX1_leaves_2 : List UInt8 := [184, 0, 200, 182, 0, 206, 177]
abbrev dktX1_leaves_2 : List UInt8 := dkwX1_leaves_2 ++ []
def dkwX1_leaves_1 : List UInt8 := [177, 42, 182, 0, 197, 42, 180, 0, 65, 27, 46, 126, 61, 42, 27, 28, 154, 0, 7, 2, 167, 0, 7, 28]
abbrev dktX1_leaves_1 : List UInt8 := dkwX1_leaves_1 ++ dktX1_leaves_2
def dkwX1_leaves_0 : List UInt8 := [42, 180, 0, 11, 27, 50, 182, 0, 122, 154, 0, 15, 42, 180, 0, 11, 27, 50, 180, 0, 152, 154, 0, 4]
abbrev dktX1_leaves_0 : List UInt8 := dkwX1_leaves_0 ++ dktX1_leaves_1
theorem dksX1_leaves_0 : cX1_leaves.data.toList.drop 0 = dktX1_leaves_0 := by decide +kernel
theorem dksX1_leaves_1 : cX1_leaves.data.toList.drop 24 = dktX1_leaves_1 := dk_seg dksX1_leaves_0 24 rfl rfl
theorem dksX1_leaves_2 : cX1_leaves.data.toList.drop 48 = dktX1_leaves_2 := dk_seg dksX1_leaves_1 24 rfl rfl
theorem dX1_leaves_0 : decode cX1_leaves 0 = .ok (.aload_n 0, 1) := dk_42 (dk_at dksX1_leaves_0 0 rfl rfl)
theorem dX1_leaves_1 : decode cX1_leaves 1 = .ok (.getfield 11, 3) := dk_180 0 11 (dk_at dksX1_leaves_0 1 rfl rfl)
theorem dX1_leaves_4 : decode cX1_leaves 4 = .ok (.iload_n 1, 1) := dk_27 (dk_at dksX1_leaves_0 4 rfl rfl)
theorem dX1_leaves_5 : decode cX1_leaves 5 = .ok (.aaload, 1) := dk_50 (dk_at dksX1_leaves_0 5 rfl rfl)
theorem dX1_leaves_6 : decode cX1_leaves 6 = .ok (.invokevirtual 122, 3) := dk_182 0 122 (dk_at dksX1_leaves_0 6 rfl rfl)
theorem dX1_leaves_9 : decode cX1_leaves 9 = .ok (.ifCond .ne 15, 3) := dk_154 0 15 (dk_at dksX1_leaves_0 9 rfl rfl)
theorem dX1_leaves_12 : decode cX1_leaves 12 = .ok (.aload_n 0, 1) := dk_42 (dk_at dksX1_leaves_0 12 rfl rfl)
theorem dX1_leaves_13 : decode cX1_leaves 13 = .ok (.getfield 11, 3) := dk_180 0 11 (dk_at dksX1_leaves_0 13 rfl rfl)
theorem dX1_leaves_16 : decode cX1_leaves 16 = .ok (.iload_n 1, 1) := dk_27 (dk_at dksX1_leaves_0 16 rfl rfl)
theorem dX1_leaves_17 : decode cX1_leaves 17 = .ok (.aaload, 1) := dk_50 (dk_at dksX1_leaves_0 17 rfl rfl)
theorem dX1_leaves_18 : decode cX1_leaves 18 = .ok (.getfield 152, 3) := dk_180 0 152 (dk_at dksX1_leaves_0 18 rfl rfl)
theorem dX1_leaves_21 : decode cX1_leaves 21 = .ok (.ifCond .ne 4, 3) := dk_154 0 4 (dk_at dksX1_leaves_0 21 rfl rfl)
theorem dX1_leaves_24 : decode cX1_leaves 24 = .ok (.return_, 1) := dk_177 (dk_at dksX1_leaves_1 0 rfl rfl)
theorem dX1_leaves_25 : decode cX1_leaves 25 = .ok (.aload_n 0, 1) := dk_42 (dk_at dksX1_leaves_1 1 rfl rfl)
theorem dX1_leaves_26 : decode cX1_leaves 26 = .ok (.invokevirtual 197, 3) := dk_182 0 197 (dk_at dksX1_leaves_1 2 rfl rfl)
theorem dX1_leaves_29 : decode cX1_leaves 29 = .ok (.aload_n 0, 1) := dk_42 (dk_at dksX1_leaves_1 5 rfl rfl)
theorem dX1_leaves_30 : decode cX1_leaves 30 = .ok (.getfield 65, 3) := dk_180 0 65 (dk_at dksX1_leaves_1 6 rfl rfl)
theorem dX1_leaves_33 : decode cX1_leaves 33 = .ok (.iload_n 1, 1) := dk_27 (dk_at dksX1_leaves_1 9 rfl rfl)
theorem dX1_leaves_34 : decode cX1_leaves 34 = .ok (.iaload, 1) := dk_46 (dk_at dksX1_leaves_1 10 rfl rfl)
theorem dX1_leaves_35 : decode cX1_leaves 35 = .ok (.iand, 1) := dk_126 (dk_at dksX1_leaves_1 11 rfl rfl)
theorem dX1_leaves_36 : decode cX1_leaves 36 = .ok (.istore_n 2, 1) := dk_61 (dk_at dksX1_leaves_1 12 rfl rfl)
theorem dX1_leaves_37 : decode cX1_leaves 37 = .ok (.aload_n 0, 1) := dk_42 (dk_at dksX1_leaves_1 13 rfl rfl)
theorem dX1_leaves_38 : decode cX1_leaves 38 = .ok (.iload_n 1, 1) := dk_27 (dk_at dksX1_leaves_1 14 rfl rfl)
theorem dX1_leaves_39 : decode cX1_leaves 39 = .ok (.iload_n 2, 1) := dk_28 (dk_at dksX1_leaves_1 15 rfl rfl)
theorem dX1_leaves_40 : decode cX1_leaves 40 = .ok (.ifCond .ne 7, 3) := dk_154 0 7 (dk_at dksX1_leaves_1 16 rfl rfl)
theorem dX1_leaves_43 : decode cX1_leaves 43 = .ok (.iconst (-1), 1) := dk_2 (dk_at dksX1_leaves_1 19 rfl rfl)
theorem dX1_leaves_44 : decode cX1_leaves 44 = .ok (.goto 7, 3) := dk_167 0 7 (dk_at dksX1_leaves_1 20 rfl rfl)
theorem dX1_leaves_47 : decode cX1_leaves 47 = .ok (.iload_n 2, 1) := dk_28 (dk_at dksX1_leaves_1 23 rfl rfl)
theorem dX1_leaves_48 : decode cX1_leaves 48 = .ok (.invokestatic 200, 3) := dk_184 0 200 (dk_at dksX1_leaves_2 0 rfl rfl)
theorem dX1_leaves_51 : decode cX1_leaves 51 = .ok (.invokevirtual 206, 3) := dk_182 0 206 (dk_at dksX1_leaves_2 3 rfl rfl)
theorem dX1_leaves_54 : decode cX1_leaves 54 = .ok (.return_, 1) := dk_177 (dk_at dksX1_leaves_2 6 rfl rfl)
abbrev cX1_standing : ByteArray := prog_4_method_8_code
def yX1_standing : MethodName := ⟨RX1, "standing", "()I"⟩
def dkwX1_standing_1 : List UInt8 := [153, 0, 9, 4, 28, 120, 167, 0, 4, 3, 128, 60, 132, 2, 1, 167, 255, 223, 27, 172]
abbrev dktX1_standing_1 : List UInt8 := dkwX1_standing_1 ++ []
def dkwX1_standing_0 : List UInt8 := [3, 60, 3, 61, 28, 42, 180, 0, 100, 162, 0, 31, 27, 42, 180, 0, 11, 28, 50, 182, 0, 122]
abbrev dktX1_standing_0 : List UInt8 := dkwX1_standing_0 ++ dktX1_standing_1
theorem dksX1_standing_0 : cX1_standing.data.toList.drop 0 = dktX1_standing_0 := by decide +kernel
theorem dksX1_standing_1 : cX1_standing.data.toList.drop 22 = dktX1_standing_1 := dk_seg dksX1_standing_0 22 rfl rfl
theorem dX1_standing_0 : decode cX1_standing 0 = .ok (.iconst 0, 1) := dk_3 (dk_at dksX1_standing_0 0 rfl rfl)
theorem dX1_standing_1 : decode cX1_standing 1 = .ok (.istore_n 1, 1) := dk_60 (dk_at dksX1_standing_0 1 rfl rfl)
theorem dX1_standing_2 : decode cX1_standing 2 = .ok (.iconst 0, 1) := dk_3 (dk_at dksX1_standing_0 2 rfl rfl)
theorem dX1_standing_3 : decode cX1_standing 3 = .ok (.istore_n 2, 1) := dk_61 (dk_at dksX1_standing_0 3 rfl rfl)
theorem dX1_standing_4 : decode cX1_standing 4 = .ok (.iload_n 2, 1) := dk_28 (dk_at dksX1_standing_0 4 rfl rfl)
theorem dX1_standing_5 : decode cX1_standing 5 = .ok (.aload_n 0, 1) := dk_42 (dk_at dksX1_standing_0 5 rfl rfl)
theorem dX1_standing_6 : decode cX1_standing 6 = .ok (.getfield 100, 3) := dk_180 0 100 (dk_at dksX1_standing_0 6 rfl rfl)
theorem dX1_standing_9 : decode cX1_standing 9 = .ok (.if_icmp .ge 31, 3) := dk_162 0 31 (dk_at dksX1_standing_0 9 rfl rfl)
theorem dX1_standing_12 : decode cX1_standing 12 = .ok (.iload_n 1, 1) := dk_27 (dk_at dksX1_standing_0 12 rfl rfl)
theorem dX1_standing_13 : decode cX1_standing 13 = .ok (.aload_n 0, 1) := dk_42 (dk_at dksX1_standing_0 13 rfl rfl)
theorem dX1_standing_14 : decode cX1_standing 14 = .ok (.getfield 11, 3) := dk_180 0 11 (dk_at dksX1_standing_0 14 rfl rfl)
theorem dX1_standing_17 : decode cX1_standing 17 = .ok (.iload_n 2, 1) := dk_28 (dk_at dksX1_standing_0 17 rfl rfl)
theorem dX1_standing_18 : decode cX1_standing 18 = .ok (.aaload, 1) := dk_50 (dk_at dksX1_standing_0 18 rfl rfl)
theorem dX1_standing_19 : decode cX1_standing 19 = .ok (.invokevirtual 122, 3) := dk_182 0 122 (dk_at dksX1_standing_0 19 rfl rfl)
theorem dX1_standing_22 : decode cX1_standing 22 = .ok (.ifCond .eq 9, 3) := dk_153 0 9 (dk_at dksX1_standing_1 0 rfl rfl)
theorem dX1_standing_25 : decode cX1_standing 25 = .ok (.iconst 1, 1) := dk_4 (dk_at dksX1_standing_1 3 rfl rfl)
theorem dX1_standing_26 : decode cX1_standing 26 = .ok (.iload_n 2, 1) := dk_28 (dk_at dksX1_standing_1 4 rfl rfl)
theorem dX1_standing_27 : decode cX1_standing 27 = .ok (.ishl, 1) := dk_120 (dk_at dksX1_standing_1 5 rfl rfl)
theorem dX1_standing_28 : decode cX1_standing 28 = .ok (.goto 4, 3) := dk_167 0 4 (dk_at dksX1_standing_1 6 rfl rfl)
theorem dX1_standing_31 : decode cX1_standing 31 = .ok (.iconst 0, 1) := dk_3 (dk_at dksX1_standing_1 9 rfl rfl)
theorem dX1_standing_32 : decode cX1_standing 32 = .ok (.ior, 1) := dk_128 (dk_at dksX1_standing_1 10 rfl rfl)
theorem dX1_standing_33 : decode cX1_standing 33 = .ok (.istore_n 1, 1) := dk_60 (dk_at dksX1_standing_1 11 rfl rfl)
theorem dX1_standing_34 : decode cX1_standing 34 = .ok (.iinc 2 1, 3) := dk_132 2 1 (dk_at dksX1_standing_1 12 rfl rfl)
theorem dX1_standing_37 : decode cX1_standing 37 = .ok (.goto (-33), 3) := dk_167 255 223 (dk_at dksX1_standing_1 15 rfl rfl)
theorem dX1_standing_40 : decode cX1_standing 40 = .ok (.iload_n 1, 1) := dk_27 (dk_at dksX1_standing_1 18 rfl rfl)
theorem dX1_standing_41 : decode cX1_standing 41 = .ok (.ireturn, 1) := dk_172 (dk_at dksX1_standing_1 19 rfl rfl)
abbrev cX1_moves_2 : ByteArray := prog_4_method_14_code
def yX1_moves_2 : MethodName := ⟨RX1, "moves", "(II)V"⟩
def dkwX1_moves_2_1 : List UInt8 := [180, 0, 11, 27, 50, 180, 0, 152, 96, 181, 0, 152, 42, 180, 0, 11, 27, 50, 3, 181, 0, 152, 177]
abbrev dktX1_moves_2_1 : List UInt8 := dkwX1_moves_2_1 ++ []
def dkwX1_moves_2_0 : List UInt8 := [42, 7, 27, 28, 182, 0, 118, 28, 2, 159, 0, 26, 42, 180, 0, 11, 28, 50, 89, 180, 0, 152, 42]
abbrev dktX1_moves_2_0 : List UInt8 := dkwX1_moves_2_0 ++ dktX1_moves_2_1
theorem dksX1_moves_2_0 : cX1_moves_2.data.toList.drop 0 = dktX1_moves_2_0 := by decide +kernel
theorem dksX1_moves_2_1 : cX1_moves_2.data.toList.drop 23 = dktX1_moves_2_1 := dk_seg dksX1_moves_2_0 23 rfl rfl
theorem dX1_moves_2_0 : decode cX1_moves_2 0 = .ok (.aload_n 0, 1) := dk_42 (dk_at dksX1_moves_2_0 0 rfl rfl)
theorem dX1_moves_2_1 : decode cX1_moves_2 1 = .ok (.iconst 4, 1) := dk_7 (dk_at dksX1_moves_2_0 1 rfl rfl)
theorem dX1_moves_2_2 : decode cX1_moves_2 2 = .ok (.iload_n 1, 1) := dk_27 (dk_at dksX1_moves_2_0 2 rfl rfl)
theorem dX1_moves_2_3 : decode cX1_moves_2 3 = .ok (.iload_n 2, 1) := dk_28 (dk_at dksX1_moves_2_0 3 rfl rfl)
theorem dX1_moves_2_4 : decode cX1_moves_2 4 = .ok (.invokevirtual 118, 3) := dk_182 0 118 (dk_at dksX1_moves_2_0 4 rfl rfl)
theorem dX1_moves_2_7 : decode cX1_moves_2 7 = .ok (.iload_n 2, 1) := dk_28 (dk_at dksX1_moves_2_0 7 rfl rfl)
theorem dX1_moves_2_8 : decode cX1_moves_2 8 = .ok (.iconst (-1), 1) := dk_2 (dk_at dksX1_moves_2_0 8 rfl rfl)
theorem dX1_moves_2_9 : decode cX1_moves_2 9 = .ok (.if_icmp .eq 26, 3) := dk_159 0 26 (dk_at dksX1_moves_2_0 9 rfl rfl)
theorem dX1_moves_2_12 : decode cX1_moves_2 12 = .ok (.aload_n 0, 1) := dk_42 (dk_at dksX1_moves_2_0 12 rfl rfl)
theorem dX1_moves_2_13 : decode cX1_moves_2 13 = .ok (.getfield 11, 3) := dk_180 0 11 (dk_at dksX1_moves_2_0 13 rfl rfl)
theorem dX1_moves_2_16 : decode cX1_moves_2 16 = .ok (.iload_n 2, 1) := dk_28 (dk_at dksX1_moves_2_0 16 rfl rfl)
theorem dX1_moves_2_17 : decode cX1_moves_2 17 = .ok (.aaload, 1) := dk_50 (dk_at dksX1_moves_2_0 17 rfl rfl)
theorem dX1_moves_2_18 : decode cX1_moves_2 18 = .ok (.dup, 1) := dk_89 (dk_at dksX1_moves_2_0 18 rfl rfl)
theorem dX1_moves_2_19 : decode cX1_moves_2 19 = .ok (.getfield 152, 3) := dk_180 0 152 (dk_at dksX1_moves_2_0 19 rfl rfl)
theorem dX1_moves_2_22 : decode cX1_moves_2 22 = .ok (.aload_n 0, 1) := dk_42 (dk_at dksX1_moves_2_0 22 rfl rfl)
theorem dX1_moves_2_23 : decode cX1_moves_2 23 = .ok (.getfield 11, 3) := dk_180 0 11 (dk_at dksX1_moves_2_1 0 rfl rfl)
theorem dX1_moves_2_26 : decode cX1_moves_2 26 = .ok (.iload_n 1, 1) := dk_27 (dk_at dksX1_moves_2_1 3 rfl rfl)
theorem dX1_moves_2_27 : decode cX1_moves_2 27 = .ok (.aaload, 1) := dk_50 (dk_at dksX1_moves_2_1 4 rfl rfl)
theorem dX1_moves_2_28 : decode cX1_moves_2 28 = .ok (.getfield 152, 3) := dk_180 0 152 (dk_at dksX1_moves_2_1 5 rfl rfl)
theorem dX1_moves_2_31 : decode cX1_moves_2 31 = .ok (.iadd, 1) := dk_96 (dk_at dksX1_moves_2_1 8 rfl rfl)
theorem dX1_moves_2_32 : decode cX1_moves_2 32 = .ok (.putfield 152, 3) := dk_181 0 152 (dk_at dksX1_moves_2_1 9 rfl rfl)
theorem dX1_moves_2_35 : decode cX1_moves_2 35 = .ok (.aload_n 0, 1) := dk_42 (dk_at dksX1_moves_2_1 12 rfl rfl)
theorem dX1_moves_2_36 : decode cX1_moves_2 36 = .ok (.getfield 11, 3) := dk_180 0 11 (dk_at dksX1_moves_2_1 13 rfl rfl)
theorem dX1_moves_2_39 : decode cX1_moves_2 39 = .ok (.iload_n 1, 1) := dk_27 (dk_at dksX1_moves_2_1 16 rfl rfl)
theorem dX1_moves_2_40 : decode cX1_moves_2 40 = .ok (.aaload, 1) := dk_50 (dk_at dksX1_moves_2_1 17 rfl rfl)
theorem dX1_moves_2_41 : decode cX1_moves_2 41 = .ok (.iconst 0, 1) := dk_3 (dk_at dksX1_moves_2_1 18 rfl rfl)
theorem dX1_moves_2_42 : decode cX1_moves_2 42 = .ok (.putfield 152, 3) := dk_181 0 152 (dk_at dksX1_moves_2_1 19 rfl rfl)
theorem dX1_moves_2_45 : decode cX1_moves_2 45 = .ok (.return_, 1) := dk_177 (dk_at dksX1_moves_2_1 22 rfl rfl)
abbrev cX1_razes : ByteArray := prog_4_method_18_code
def yX1_razes : MethodName := ⟨RX1, "razes", "(I)V"⟩
def dkwX1_razes_1 : List UInt8 := [167, 255, 236, 42, 27, 182, 0, 213, 177]
abbrev dktX1_razes_1 : List UInt8 := dkwX1_razes_1 ++ []
def dkwX1_razes_0 : List UInt8 := [3, 61, 28, 7, 162, 0, 21, 42, 180, 0, 11, 27, 50, 180, 0, 130, 28, 3, 79, 132, 2, 1]
abbrev dktX1_razes_0 : List UInt8 := dkwX1_razes_0 ++ dktX1_razes_1
theorem dksX1_razes_0 : cX1_razes.data.toList.drop 0 = dktX1_razes_0 := by decide +kernel
theorem dksX1_razes_1 : cX1_razes.data.toList.drop 22 = dktX1_razes_1 := dk_seg dksX1_razes_0 22 rfl rfl
theorem dX1_razes_0 : decode cX1_razes 0 = .ok (.iconst 0, 1) := dk_3 (dk_at dksX1_razes_0 0 rfl rfl)
theorem dX1_razes_1 : decode cX1_razes 1 = .ok (.istore_n 2, 1) := dk_61 (dk_at dksX1_razes_0 1 rfl rfl)
theorem dX1_razes_2 : decode cX1_razes 2 = .ok (.iload_n 2, 1) := dk_28 (dk_at dksX1_razes_0 2 rfl rfl)
theorem dX1_razes_3 : decode cX1_razes 3 = .ok (.iconst 4, 1) := dk_7 (dk_at dksX1_razes_0 3 rfl rfl)
theorem dX1_razes_4 : decode cX1_razes 4 = .ok (.if_icmp .ge 21, 3) := dk_162 0 21 (dk_at dksX1_razes_0 4 rfl rfl)
theorem dX1_razes_7 : decode cX1_razes 7 = .ok (.aload_n 0, 1) := dk_42 (dk_at dksX1_razes_0 7 rfl rfl)
theorem dX1_razes_8 : decode cX1_razes 8 = .ok (.getfield 11, 3) := dk_180 0 11 (dk_at dksX1_razes_0 8 rfl rfl)
theorem dX1_razes_11 : decode cX1_razes 11 = .ok (.iload_n 1, 1) := dk_27 (dk_at dksX1_razes_0 11 rfl rfl)
theorem dX1_razes_12 : decode cX1_razes 12 = .ok (.aaload, 1) := dk_50 (dk_at dksX1_razes_0 12 rfl rfl)
theorem dX1_razes_13 : decode cX1_razes 13 = .ok (.getfield 130, 3) := dk_180 0 130 (dk_at dksX1_razes_0 13 rfl rfl)
theorem dX1_razes_16 : decode cX1_razes 16 = .ok (.iload_n 2, 1) := dk_28 (dk_at dksX1_razes_0 16 rfl rfl)
theorem dX1_razes_17 : decode cX1_razes 17 = .ok (.iconst 0, 1) := dk_3 (dk_at dksX1_razes_0 17 rfl rfl)
theorem dX1_razes_18 : decode cX1_razes 18 = .ok (.iastore, 1) := dk_79 (dk_at dksX1_razes_0 18 rfl rfl)
theorem dX1_razes_19 : decode cX1_razes 19 = .ok (.iinc 2 1, 3) := dk_132 2 1 (dk_at dksX1_razes_0 19 rfl rfl)
theorem dX1_razes_22 : decode cX1_razes 22 = .ok (.goto (-20), 3) := dk_167 255 236 (dk_at dksX1_razes_1 0 rfl rfl)
theorem dX1_razes_25 : decode cX1_razes 25 = .ok (.aload_n 0, 1) := dk_42 (dk_at dksX1_razes_1 3 rfl rfl)
theorem dX1_razes_26 : decode cX1_razes 26 = .ok (.iload_n 1, 1) := dk_27 (dk_at dksX1_razes_1 4 rfl rfl)
theorem dX1_razes_27 : decode cX1_razes 27 = .ok (.invokevirtual 213, 3) := dk_182 0 213 (dk_at dksX1_razes_1 5 rfl rfl)
theorem dX1_razes_30 : decode cX1_razes 30 = .ok (.return_, 1) := dk_177 (dk_at dksX1_razes_1 8 rfl rfl)
abbrev cX1_nibbles : ByteArray := prog_4_method_19_code
def yX1_nibbles : MethodName := ⟨RX1, "nibbles", "(III)V"⟩
def dkwX1_nibbles_1 : List UInt8 := [27, 29, 182, 0, 118, 42, 27, 182, 0, 213, 177]
abbrev dktX1_nibbles_1 : List UInt8 := dkwX1_nibbles_1 ++ []
def dkwX1_nibbles_0 : List UInt8 := [42, 180, 0, 11, 27, 50, 28, 29, 182, 0, 209, 87, 42, 89, 180, 0, 81, 29, 96, 181, 0, 81, 42, 3]
abbrev dktX1_nibbles_0 : List UInt8 := dkwX1_nibbles_0 ++ dktX1_nibbles_1
theorem dksX1_nibbles_0 : cX1_nibbles.data.toList.drop 0 = dktX1_nibbles_0 := by decide +kernel
theorem dksX1_nibbles_1 : cX1_nibbles.data.toList.drop 24 = dktX1_nibbles_1 := dk_seg dksX1_nibbles_0 24 rfl rfl
theorem dX1_nibbles_0 : decode cX1_nibbles 0 = .ok (.aload_n 0, 1) := dk_42 (dk_at dksX1_nibbles_0 0 rfl rfl)
theorem dX1_nibbles_1 : decode cX1_nibbles 1 = .ok (.getfield 11, 3) := dk_180 0 11 (dk_at dksX1_nibbles_0 1 rfl rfl)
theorem dX1_nibbles_4 : decode cX1_nibbles 4 = .ok (.iload_n 1, 1) := dk_27 (dk_at dksX1_nibbles_0 4 rfl rfl)
theorem dX1_nibbles_5 : decode cX1_nibbles 5 = .ok (.aaload, 1) := dk_50 (dk_at dksX1_nibbles_0 5 rfl rfl)
theorem dX1_nibbles_6 : decode cX1_nibbles 6 = .ok (.iload_n 2, 1) := dk_28 (dk_at dksX1_nibbles_0 6 rfl rfl)
theorem dX1_nibbles_7 : decode cX1_nibbles 7 = .ok (.iload_n 3, 1) := dk_29 (dk_at dksX1_nibbles_0 7 rfl rfl)
theorem dX1_nibbles_8 : decode cX1_nibbles 8 = .ok (.invokevirtual 209, 3) := dk_182 0 209 (dk_at dksX1_nibbles_0 8 rfl rfl)
theorem dX1_nibbles_11 : decode cX1_nibbles 11 = .ok (.pop, 1) := dk_87 (dk_at dksX1_nibbles_0 11 rfl rfl)
theorem dX1_nibbles_12 : decode cX1_nibbles 12 = .ok (.aload_n 0, 1) := dk_42 (dk_at dksX1_nibbles_0 12 rfl rfl)
theorem dX1_nibbles_13 : decode cX1_nibbles 13 = .ok (.dup, 1) := dk_89 (dk_at dksX1_nibbles_0 13 rfl rfl)
theorem dX1_nibbles_14 : decode cX1_nibbles 14 = .ok (.getfield 81, 3) := dk_180 0 81 (dk_at dksX1_nibbles_0 14 rfl rfl)
theorem dX1_nibbles_17 : decode cX1_nibbles 17 = .ok (.iload_n 3, 1) := dk_29 (dk_at dksX1_nibbles_0 17 rfl rfl)
theorem dX1_nibbles_18 : decode cX1_nibbles 18 = .ok (.iadd, 1) := dk_96 (dk_at dksX1_nibbles_0 18 rfl rfl)
theorem dX1_nibbles_19 : decode cX1_nibbles 19 = .ok (.putfield 81, 3) := dk_181 0 81 (dk_at dksX1_nibbles_0 19 rfl rfl)
theorem dX1_nibbles_22 : decode cX1_nibbles 22 = .ok (.aload_n 0, 1) := dk_42 (dk_at dksX1_nibbles_0 22 rfl rfl)
theorem dX1_nibbles_23 : decode cX1_nibbles 23 = .ok (.iconst 0, 1) := dk_3 (dk_at dksX1_nibbles_0 23 rfl rfl)
theorem dX1_nibbles_24 : decode cX1_nibbles 24 = .ok (.iload_n 1, 1) := dk_27 (dk_at dksX1_nibbles_1 0 rfl rfl)
theorem dX1_nibbles_25 : decode cX1_nibbles 25 = .ok (.iload_n 3, 1) := dk_29 (dk_at dksX1_nibbles_1 1 rfl rfl)
theorem dX1_nibbles_26 : decode cX1_nibbles 26 = .ok (.invokevirtual 118, 3) := dk_182 0 118 (dk_at dksX1_nibbles_1 2 rfl rfl)
theorem dX1_nibbles_29 : decode cX1_nibbles 29 = .ok (.aload_n 0, 1) := dk_42 (dk_at dksX1_nibbles_1 5 rfl rfl)
theorem dX1_nibbles_30 : decode cX1_nibbles 30 = .ok (.iload_n 1, 1) := dk_27 (dk_at dksX1_nibbles_1 6 rfl rfl)
theorem dX1_nibbles_31 : decode cX1_nibbles 31 = .ok (.invokevirtual 213, 3) := dk_182 0 213 (dk_at dksX1_nibbles_1 7 rfl rfl)
theorem dX1_nibbles_34 : decode cX1_nibbles 34 = .ok (.return_, 1) := dk_177 (dk_at dksX1_nibbles_1 10 rfl rfl)
abbrev cX1_passes : ByteArray := prog_4_method_23_code
def yX1_passes : MethodName := ⟨RX1, "passes", "()I"⟩
def dkwX1_passes_13 : List UInt8 := [184, 1, 0, 172]
abbrev dktX1_passes_13 : List UInt8 := dkwX1_passes_13 ++ []
def dkwX1_passes_12 : List UInt8 := [132, 2, 1, 167, 255, 199, 42, 89, 180, 0, 87, 4, 96, 181, 0, 87, 27, 42, 182, 0, 197, 2, 130, 126]
abbrev dktX1_passes_12 : List UInt8 := dkwX1_passes_12 ++ dktX1_passes_13
def dkwX1_passes_11 : List UInt8 := [180, 0, 11, 28, 50, 180, 0, 158, 17, 39, 15, 162, 0, 7, 4, 167, 0, 4, 3, 96, 181, 0, 158]
abbrev dktX1_passes_11 : List UInt8 := dkwX1_passes_11 ++ dktX1_passes_12
def dkwX1_passes_10 : List UInt8 := [180, 0, 11, 28, 50, 89, 180, 0, 158, 42, 180, 0, 11, 28, 50, 182, 0, 122, 153, 0, 22, 42]
abbrev dktX1_passes_10 : List UInt8 := dkwX1_passes_10 ++ dktX1_passes_11
def dkwX1_passes_9 : List UInt8 := [42, 28, 182, 0, 213, 132, 2, 1, 167, 255, 240, 3, 61, 28, 42, 180, 0, 100, 162, 0, 55, 42]
abbrev dktX1_passes_9 : List UInt8 := dkwX1_passes_9 ++ dktX1_passes_10
def dkwX1_passes_8 : List UInt8 := [162, 0, 14, 42, 28, 182, 0, 253, 132, 2, 1, 167, 255, 240, 3, 61, 28, 42, 180, 0, 100, 162, 0, 14]
abbrev dktX1_passes_8 : List UInt8 := dkwX1_passes_8 ++ dktX1_passes_9
def dkwX1_passes_7 : List UInt8 := [180, 0, 100, 162, 0, 14, 42, 28, 182, 0, 250, 132, 2, 1, 167, 255, 240, 3, 61, 28, 42, 180, 0, 100]
abbrev dktX1_passes_7 : List UInt8 := dkwX1_passes_7 ++ dktX1_passes_8
def dkwX1_passes_6 : List UInt8 := [28, 50, 180, 0, 152, 158, 0, 8, 42, 28, 182, 0, 247, 132, 2, 1, 167, 255, 216, 3, 61, 28, 42]
abbrev dktX1_passes_6 : List UInt8 := dkwX1_passes_6 ++ dktX1_passes_7
def dkwX1_passes_5 : List UInt8 := [28, 42, 180, 0, 100, 162, 0, 38, 42, 180, 0, 11, 28, 50, 182, 0, 122, 153, 0, 20, 42, 180, 0, 11]
abbrev dktX1_passes_5 : List UInt8 := dkwX1_passes_5 ++ dktX1_passes_6
def dkwX1_passes_4 : List UInt8 := [27, 182, 0, 164, 192, 0, 238, 42, 182, 0, 244, 132, 1, 1, 167, 255, 206, 42, 182, 0, 197, 60, 3, 61]
abbrev dktX1_passes_4 : List UInt8 := dkwX1_passes_4 ++ dktX1_passes_5
def dkwX1_passes_3 : List UInt8 := [180, 0, 62, 27, 182, 0, 164, 192, 0, 238, 42, 180, 0, 87, 182, 0, 240, 153, 0, 18, 42, 180, 0, 62]
abbrev dktX1_passes_3 : List UInt8 := dkwX1_passes_3 ++ dktX1_passes_4
def dkwX1_passes_2 : List UInt8 := [182, 0, 244, 132, 1, 1, 167, 255, 206, 3, 60, 27, 42, 180, 0, 62, 182, 0, 161, 162, 0, 45, 42]
abbrev dktX1_passes_2 : List UInt8 := dkwX1_passes_2 ++ dktX1_passes_3
def dkwX1_passes_1 : List UInt8 := [42, 180, 0, 87, 182, 0, 240, 153, 0, 18, 42, 180, 0, 59, 27, 182, 0, 164, 192, 0, 238, 42]
abbrev dktX1_passes_1 : List UInt8 := dkwX1_passes_1 ++ dktX1_passes_2
def dkwX1_passes_0 : List UInt8 := [3, 60, 27, 42, 180, 0, 59, 182, 0, 161, 162, 0, 45, 42, 180, 0, 59, 27, 182, 0, 164, 192, 0, 238]
abbrev dktX1_passes_0 : List UInt8 := dkwX1_passes_0 ++ dktX1_passes_1
theorem dksX1_passes_0 : cX1_passes.data.toList.drop 0 = dktX1_passes_0 := by decide +kernel
theorem dksX1_passes_1 : cX1_passes.data.toList.drop 24 = dktX1_passes_1 := dk_seg dksX1_passes_0 24 rfl rfl
theorem dksX1_passes_2 : cX1_passes.data.toList.drop 46 = dktX1_passes_2 := dk_seg dksX1_passes_1 22 rfl rfl
theorem dksX1_passes_3 : cX1_passes.data.toList.drop 69 = dktX1_passes_3 := dk_seg dksX1_passes_2 23 rfl rfl
theorem dksX1_passes_4 : cX1_passes.data.toList.drop 93 = dktX1_passes_4 := dk_seg dksX1_passes_3 24 rfl rfl
theorem dksX1_passes_5 : cX1_passes.data.toList.drop 117 = dktX1_passes_5 := dk_seg dksX1_passes_4 24 rfl rfl
theorem dksX1_passes_6 : cX1_passes.data.toList.drop 141 = dktX1_passes_6 := dk_seg dksX1_passes_5 24 rfl rfl
theorem dksX1_passes_7 : cX1_passes.data.toList.drop 164 = dktX1_passes_7 := dk_seg dksX1_passes_6 23 rfl rfl
theorem dksX1_passes_8 : cX1_passes.data.toList.drop 188 = dktX1_passes_8 := dk_seg dksX1_passes_7 24 rfl rfl
theorem dksX1_passes_9 : cX1_passes.data.toList.drop 212 = dktX1_passes_9 := dk_seg dksX1_passes_8 24 rfl rfl
theorem dksX1_passes_10 : cX1_passes.data.toList.drop 234 = dktX1_passes_10 := dk_seg dksX1_passes_9 22 rfl rfl
theorem dksX1_passes_11 : cX1_passes.data.toList.drop 256 = dktX1_passes_11 := dk_seg dksX1_passes_10 22 rfl rfl
theorem dksX1_passes_12 : cX1_passes.data.toList.drop 279 = dktX1_passes_12 := dk_seg dksX1_passes_11 23 rfl rfl
theorem dksX1_passes_13 : cX1_passes.data.toList.drop 303 = dktX1_passes_13 := dk_seg dksX1_passes_12 24 rfl rfl
theorem dX1_passes_0 : decode cX1_passes 0 = .ok (.iconst 0, 1) := dk_3 (dk_at dksX1_passes_0 0 rfl rfl)
theorem dX1_passes_1 : decode cX1_passes 1 = .ok (.istore_n 1, 1) := dk_60 (dk_at dksX1_passes_0 1 rfl rfl)
theorem dX1_passes_2 : decode cX1_passes 2 = .ok (.iload_n 1, 1) := dk_27 (dk_at dksX1_passes_0 2 rfl rfl)
theorem dX1_passes_3 : decode cX1_passes 3 = .ok (.aload_n 0, 1) := dk_42 (dk_at dksX1_passes_0 3 rfl rfl)
theorem dX1_passes_4 : decode cX1_passes 4 = .ok (.getfield 59, 3) := dk_180 0 59 (dk_at dksX1_passes_0 4 rfl rfl)
theorem dX1_passes_7 : decode cX1_passes 7 = .ok (.invokevirtual 161, 3) := dk_182 0 161 (dk_at dksX1_passes_0 7 rfl rfl)
theorem dX1_passes_10 : decode cX1_passes 10 = .ok (.if_icmp .ge 45, 3) := dk_162 0 45 (dk_at dksX1_passes_0 10 rfl rfl)
theorem dX1_passes_13 : decode cX1_passes 13 = .ok (.aload_n 0, 1) := dk_42 (dk_at dksX1_passes_0 13 rfl rfl)
theorem dX1_passes_14 : decode cX1_passes 14 = .ok (.getfield 59, 3) := dk_180 0 59 (dk_at dksX1_passes_0 14 rfl rfl)
theorem dX1_passes_17 : decode cX1_passes 17 = .ok (.iload_n 1, 1) := dk_27 (dk_at dksX1_passes_0 17 rfl rfl)
theorem dX1_passes_18 : decode cX1_passes 18 = .ok (.invokevirtual 164, 3) := dk_182 0 164 (dk_at dksX1_passes_0 18 rfl rfl)
theorem dX1_passes_21 : decode cX1_passes 21 = .ok (.checkcast 238, 3) := dk_192 0 238 (dk_at dksX1_passes_0 21 rfl rfl)
theorem dX1_passes_24 : decode cX1_passes 24 = .ok (.aload_n 0, 1) := dk_42 (dk_at dksX1_passes_1 0 rfl rfl)
theorem dX1_passes_25 : decode cX1_passes 25 = .ok (.getfield 87, 3) := dk_180 0 87 (dk_at dksX1_passes_1 1 rfl rfl)
theorem dX1_passes_28 : decode cX1_passes 28 = .ok (.invokevirtual 240, 3) := dk_182 0 240 (dk_at dksX1_passes_1 4 rfl rfl)
theorem dX1_passes_31 : decode cX1_passes 31 = .ok (.ifCond .eq 18, 3) := dk_153 0 18 (dk_at dksX1_passes_1 7 rfl rfl)
theorem dX1_passes_34 : decode cX1_passes 34 = .ok (.aload_n 0, 1) := dk_42 (dk_at dksX1_passes_1 10 rfl rfl)
theorem dX1_passes_35 : decode cX1_passes 35 = .ok (.getfield 59, 3) := dk_180 0 59 (dk_at dksX1_passes_1 11 rfl rfl)
theorem dX1_passes_38 : decode cX1_passes 38 = .ok (.iload_n 1, 1) := dk_27 (dk_at dksX1_passes_1 14 rfl rfl)
theorem dX1_passes_39 : decode cX1_passes 39 = .ok (.invokevirtual 164, 3) := dk_182 0 164 (dk_at dksX1_passes_1 15 rfl rfl)
theorem dX1_passes_42 : decode cX1_passes 42 = .ok (.checkcast 238, 3) := dk_192 0 238 (dk_at dksX1_passes_1 18 rfl rfl)
theorem dX1_passes_45 : decode cX1_passes 45 = .ok (.aload_n 0, 1) := dk_42 (dk_at dksX1_passes_1 21 rfl rfl)
theorem dX1_passes_46 : decode cX1_passes 46 = .ok (.invokevirtual 244, 3) := dk_182 0 244 (dk_at dksX1_passes_2 0 rfl rfl)
theorem dX1_passes_49 : decode cX1_passes 49 = .ok (.iinc 1 1, 3) := dk_132 1 1 (dk_at dksX1_passes_2 3 rfl rfl)
theorem dX1_passes_52 : decode cX1_passes 52 = .ok (.goto (-50), 3) := dk_167 255 206 (dk_at dksX1_passes_2 6 rfl rfl)
theorem dX1_passes_55 : decode cX1_passes 55 = .ok (.iconst 0, 1) := dk_3 (dk_at dksX1_passes_2 9 rfl rfl)
theorem dX1_passes_56 : decode cX1_passes 56 = .ok (.istore_n 1, 1) := dk_60 (dk_at dksX1_passes_2 10 rfl rfl)
theorem dX1_passes_57 : decode cX1_passes 57 = .ok (.iload_n 1, 1) := dk_27 (dk_at dksX1_passes_2 11 rfl rfl)
theorem dX1_passes_58 : decode cX1_passes 58 = .ok (.aload_n 0, 1) := dk_42 (dk_at dksX1_passes_2 12 rfl rfl)
theorem dX1_passes_59 : decode cX1_passes 59 = .ok (.getfield 62, 3) := dk_180 0 62 (dk_at dksX1_passes_2 13 rfl rfl)
theorem dX1_passes_62 : decode cX1_passes 62 = .ok (.invokevirtual 161, 3) := dk_182 0 161 (dk_at dksX1_passes_2 16 rfl rfl)
theorem dX1_passes_65 : decode cX1_passes 65 = .ok (.if_icmp .ge 45, 3) := dk_162 0 45 (dk_at dksX1_passes_2 19 rfl rfl)
theorem dX1_passes_68 : decode cX1_passes 68 = .ok (.aload_n 0, 1) := dk_42 (dk_at dksX1_passes_2 22 rfl rfl)
theorem dX1_passes_69 : decode cX1_passes 69 = .ok (.getfield 62, 3) := dk_180 0 62 (dk_at dksX1_passes_3 0 rfl rfl)
theorem dX1_passes_72 : decode cX1_passes 72 = .ok (.iload_n 1, 1) := dk_27 (dk_at dksX1_passes_3 3 rfl rfl)
theorem dX1_passes_73 : decode cX1_passes 73 = .ok (.invokevirtual 164, 3) := dk_182 0 164 (dk_at dksX1_passes_3 4 rfl rfl)
theorem dX1_passes_76 : decode cX1_passes 76 = .ok (.checkcast 238, 3) := dk_192 0 238 (dk_at dksX1_passes_3 7 rfl rfl)
theorem dX1_passes_79 : decode cX1_passes 79 = .ok (.aload_n 0, 1) := dk_42 (dk_at dksX1_passes_3 10 rfl rfl)
theorem dX1_passes_80 : decode cX1_passes 80 = .ok (.getfield 87, 3) := dk_180 0 87 (dk_at dksX1_passes_3 11 rfl rfl)
theorem dX1_passes_83 : decode cX1_passes 83 = .ok (.invokevirtual 240, 3) := dk_182 0 240 (dk_at dksX1_passes_3 14 rfl rfl)
theorem dX1_passes_86 : decode cX1_passes 86 = .ok (.ifCond .eq 18, 3) := dk_153 0 18 (dk_at dksX1_passes_3 17 rfl rfl)
theorem dX1_passes_89 : decode cX1_passes 89 = .ok (.aload_n 0, 1) := dk_42 (dk_at dksX1_passes_3 20 rfl rfl)
theorem dX1_passes_90 : decode cX1_passes 90 = .ok (.getfield 62, 3) := dk_180 0 62 (dk_at dksX1_passes_3 21 rfl rfl)
theorem dX1_passes_93 : decode cX1_passes 93 = .ok (.iload_n 1, 1) := dk_27 (dk_at dksX1_passes_4 0 rfl rfl)
theorem dX1_passes_94 : decode cX1_passes 94 = .ok (.invokevirtual 164, 3) := dk_182 0 164 (dk_at dksX1_passes_4 1 rfl rfl)
theorem dX1_passes_97 : decode cX1_passes 97 = .ok (.checkcast 238, 3) := dk_192 0 238 (dk_at dksX1_passes_4 4 rfl rfl)
theorem dX1_passes_100 : decode cX1_passes 100 = .ok (.aload_n 0, 1) := dk_42 (dk_at dksX1_passes_4 7 rfl rfl)
theorem dX1_passes_101 : decode cX1_passes 101 = .ok (.invokevirtual 244, 3) := dk_182 0 244 (dk_at dksX1_passes_4 8 rfl rfl)
theorem dX1_passes_104 : decode cX1_passes 104 = .ok (.iinc 1 1, 3) := dk_132 1 1 (dk_at dksX1_passes_4 11 rfl rfl)
theorem dX1_passes_107 : decode cX1_passes 107 = .ok (.goto (-50), 3) := dk_167 255 206 (dk_at dksX1_passes_4 14 rfl rfl)
theorem dX1_passes_110 : decode cX1_passes 110 = .ok (.aload_n 0, 1) := dk_42 (dk_at dksX1_passes_4 17 rfl rfl)
theorem dX1_passes_111 : decode cX1_passes 111 = .ok (.invokevirtual 197, 3) := dk_182 0 197 (dk_at dksX1_passes_4 18 rfl rfl)
theorem dX1_passes_114 : decode cX1_passes 114 = .ok (.istore_n 1, 1) := dk_60 (dk_at dksX1_passes_4 21 rfl rfl)
theorem dX1_passes_115 : decode cX1_passes 115 = .ok (.iconst 0, 1) := dk_3 (dk_at dksX1_passes_4 22 rfl rfl)
theorem dX1_passes_116 : decode cX1_passes 116 = .ok (.istore_n 2, 1) := dk_61 (dk_at dksX1_passes_4 23 rfl rfl)
theorem dX1_passes_117 : decode cX1_passes 117 = .ok (.iload_n 2, 1) := dk_28 (dk_at dksX1_passes_5 0 rfl rfl)
theorem dX1_passes_118 : decode cX1_passes 118 = .ok (.aload_n 0, 1) := dk_42 (dk_at dksX1_passes_5 1 rfl rfl)
theorem dX1_passes_119 : decode cX1_passes 119 = .ok (.getfield 100, 3) := dk_180 0 100 (dk_at dksX1_passes_5 2 rfl rfl)
theorem dX1_passes_122 : decode cX1_passes 122 = .ok (.if_icmp .ge 38, 3) := dk_162 0 38 (dk_at dksX1_passes_5 5 rfl rfl)
theorem dX1_passes_125 : decode cX1_passes 125 = .ok (.aload_n 0, 1) := dk_42 (dk_at dksX1_passes_5 8 rfl rfl)
theorem dX1_passes_126 : decode cX1_passes 126 = .ok (.getfield 11, 3) := dk_180 0 11 (dk_at dksX1_passes_5 9 rfl rfl)
theorem dX1_passes_129 : decode cX1_passes 129 = .ok (.iload_n 2, 1) := dk_28 (dk_at dksX1_passes_5 12 rfl rfl)
theorem dX1_passes_130 : decode cX1_passes 130 = .ok (.aaload, 1) := dk_50 (dk_at dksX1_passes_5 13 rfl rfl)
theorem dX1_passes_131 : decode cX1_passes 131 = .ok (.invokevirtual 122, 3) := dk_182 0 122 (dk_at dksX1_passes_5 14 rfl rfl)
theorem dX1_passes_134 : decode cX1_passes 134 = .ok (.ifCond .eq 20, 3) := dk_153 0 20 (dk_at dksX1_passes_5 17 rfl rfl)
theorem dX1_passes_137 : decode cX1_passes 137 = .ok (.aload_n 0, 1) := dk_42 (dk_at dksX1_passes_5 20 rfl rfl)
theorem dX1_passes_138 : decode cX1_passes 138 = .ok (.getfield 11, 3) := dk_180 0 11 (dk_at dksX1_passes_5 21 rfl rfl)
theorem dX1_passes_141 : decode cX1_passes 141 = .ok (.iload_n 2, 1) := dk_28 (dk_at dksX1_passes_6 0 rfl rfl)
theorem dX1_passes_142 : decode cX1_passes 142 = .ok (.aaload, 1) := dk_50 (dk_at dksX1_passes_6 1 rfl rfl)
theorem dX1_passes_143 : decode cX1_passes 143 = .ok (.getfield 152, 3) := dk_180 0 152 (dk_at dksX1_passes_6 2 rfl rfl)
theorem dX1_passes_146 : decode cX1_passes 146 = .ok (.ifCond .le 8, 3) := dk_158 0 8 (dk_at dksX1_passes_6 5 rfl rfl)
theorem dX1_passes_149 : decode cX1_passes 149 = .ok (.aload_n 0, 1) := dk_42 (dk_at dksX1_passes_6 8 rfl rfl)
theorem dX1_passes_150 : decode cX1_passes 150 = .ok (.iload_n 2, 1) := dk_28 (dk_at dksX1_passes_6 9 rfl rfl)
theorem dX1_passes_151 : decode cX1_passes 151 = .ok (.invokevirtual 247, 3) := dk_182 0 247 (dk_at dksX1_passes_6 10 rfl rfl)
theorem dX1_passes_154 : decode cX1_passes 154 = .ok (.iinc 2 1, 3) := dk_132 2 1 (dk_at dksX1_passes_6 13 rfl rfl)
theorem dX1_passes_157 : decode cX1_passes 157 = .ok (.goto (-40), 3) := dk_167 255 216 (dk_at dksX1_passes_6 16 rfl rfl)
theorem dX1_passes_160 : decode cX1_passes 160 = .ok (.iconst 0, 1) := dk_3 (dk_at dksX1_passes_6 19 rfl rfl)
theorem dX1_passes_161 : decode cX1_passes 161 = .ok (.istore_n 2, 1) := dk_61 (dk_at dksX1_passes_6 20 rfl rfl)
theorem dX1_passes_162 : decode cX1_passes 162 = .ok (.iload_n 2, 1) := dk_28 (dk_at dksX1_passes_6 21 rfl rfl)
theorem dX1_passes_163 : decode cX1_passes 163 = .ok (.aload_n 0, 1) := dk_42 (dk_at dksX1_passes_6 22 rfl rfl)
theorem dX1_passes_164 : decode cX1_passes 164 = .ok (.getfield 100, 3) := dk_180 0 100 (dk_at dksX1_passes_7 0 rfl rfl)
theorem dX1_passes_167 : decode cX1_passes 167 = .ok (.if_icmp .ge 14, 3) := dk_162 0 14 (dk_at dksX1_passes_7 3 rfl rfl)
theorem dX1_passes_170 : decode cX1_passes 170 = .ok (.aload_n 0, 1) := dk_42 (dk_at dksX1_passes_7 6 rfl rfl)
theorem dX1_passes_171 : decode cX1_passes 171 = .ok (.iload_n 2, 1) := dk_28 (dk_at dksX1_passes_7 7 rfl rfl)
theorem dX1_passes_172 : decode cX1_passes 172 = .ok (.invokevirtual 250, 3) := dk_182 0 250 (dk_at dksX1_passes_7 8 rfl rfl)
theorem dX1_passes_175 : decode cX1_passes 175 = .ok (.iinc 2 1, 3) := dk_132 2 1 (dk_at dksX1_passes_7 11 rfl rfl)
theorem dX1_passes_178 : decode cX1_passes 178 = .ok (.goto (-16), 3) := dk_167 255 240 (dk_at dksX1_passes_7 14 rfl rfl)
theorem dX1_passes_181 : decode cX1_passes 181 = .ok (.iconst 0, 1) := dk_3 (dk_at dksX1_passes_7 17 rfl rfl)
theorem dX1_passes_182 : decode cX1_passes 182 = .ok (.istore_n 2, 1) := dk_61 (dk_at dksX1_passes_7 18 rfl rfl)
theorem dX1_passes_183 : decode cX1_passes 183 = .ok (.iload_n 2, 1) := dk_28 (dk_at dksX1_passes_7 19 rfl rfl)
theorem dX1_passes_184 : decode cX1_passes 184 = .ok (.aload_n 0, 1) := dk_42 (dk_at dksX1_passes_7 20 rfl rfl)
theorem dX1_passes_185 : decode cX1_passes 185 = .ok (.getfield 100, 3) := dk_180 0 100 (dk_at dksX1_passes_7 21 rfl rfl)
theorem dX1_passes_188 : decode cX1_passes 188 = .ok (.if_icmp .ge 14, 3) := dk_162 0 14 (dk_at dksX1_passes_8 0 rfl rfl)
theorem dX1_passes_191 : decode cX1_passes 191 = .ok (.aload_n 0, 1) := dk_42 (dk_at dksX1_passes_8 3 rfl rfl)
theorem dX1_passes_192 : decode cX1_passes 192 = .ok (.iload_n 2, 1) := dk_28 (dk_at dksX1_passes_8 4 rfl rfl)
theorem dX1_passes_193 : decode cX1_passes 193 = .ok (.invokevirtual 253, 3) := dk_182 0 253 (dk_at dksX1_passes_8 5 rfl rfl)
theorem dX1_passes_196 : decode cX1_passes 196 = .ok (.iinc 2 1, 3) := dk_132 2 1 (dk_at dksX1_passes_8 8 rfl rfl)
theorem dX1_passes_199 : decode cX1_passes 199 = .ok (.goto (-16), 3) := dk_167 255 240 (dk_at dksX1_passes_8 11 rfl rfl)
theorem dX1_passes_202 : decode cX1_passes 202 = .ok (.iconst 0, 1) := dk_3 (dk_at dksX1_passes_8 14 rfl rfl)
theorem dX1_passes_203 : decode cX1_passes 203 = .ok (.istore_n 2, 1) := dk_61 (dk_at dksX1_passes_8 15 rfl rfl)
theorem dX1_passes_204 : decode cX1_passes 204 = .ok (.iload_n 2, 1) := dk_28 (dk_at dksX1_passes_8 16 rfl rfl)
theorem dX1_passes_205 : decode cX1_passes 205 = .ok (.aload_n 0, 1) := dk_42 (dk_at dksX1_passes_8 17 rfl rfl)
theorem dX1_passes_206 : decode cX1_passes 206 = .ok (.getfield 100, 3) := dk_180 0 100 (dk_at dksX1_passes_8 18 rfl rfl)
theorem dX1_passes_209 : decode cX1_passes 209 = .ok (.if_icmp .ge 14, 3) := dk_162 0 14 (dk_at dksX1_passes_8 21 rfl rfl)
theorem dX1_passes_212 : decode cX1_passes 212 = .ok (.aload_n 0, 1) := dk_42 (dk_at dksX1_passes_9 0 rfl rfl)
theorem dX1_passes_213 : decode cX1_passes 213 = .ok (.iload_n 2, 1) := dk_28 (dk_at dksX1_passes_9 1 rfl rfl)
theorem dX1_passes_214 : decode cX1_passes 214 = .ok (.invokevirtual 213, 3) := dk_182 0 213 (dk_at dksX1_passes_9 2 rfl rfl)
theorem dX1_passes_217 : decode cX1_passes 217 = .ok (.iinc 2 1, 3) := dk_132 2 1 (dk_at dksX1_passes_9 5 rfl rfl)
theorem dX1_passes_220 : decode cX1_passes 220 = .ok (.goto (-16), 3) := dk_167 255 240 (dk_at dksX1_passes_9 8 rfl rfl)
theorem dX1_passes_223 : decode cX1_passes 223 = .ok (.iconst 0, 1) := dk_3 (dk_at dksX1_passes_9 11 rfl rfl)
theorem dX1_passes_224 : decode cX1_passes 224 = .ok (.istore_n 2, 1) := dk_61 (dk_at dksX1_passes_9 12 rfl rfl)
theorem dX1_passes_225 : decode cX1_passes 225 = .ok (.iload_n 2, 1) := dk_28 (dk_at dksX1_passes_9 13 rfl rfl)
theorem dX1_passes_226 : decode cX1_passes 226 = .ok (.aload_n 0, 1) := dk_42 (dk_at dksX1_passes_9 14 rfl rfl)
theorem dX1_passes_227 : decode cX1_passes 227 = .ok (.getfield 100, 3) := dk_180 0 100 (dk_at dksX1_passes_9 15 rfl rfl)
theorem dX1_passes_230 : decode cX1_passes 230 = .ok (.if_icmp .ge 55, 3) := dk_162 0 55 (dk_at dksX1_passes_9 18 rfl rfl)
theorem dX1_passes_233 : decode cX1_passes 233 = .ok (.aload_n 0, 1) := dk_42 (dk_at dksX1_passes_9 21 rfl rfl)
theorem dX1_passes_234 : decode cX1_passes 234 = .ok (.getfield 11, 3) := dk_180 0 11 (dk_at dksX1_passes_10 0 rfl rfl)
theorem dX1_passes_237 : decode cX1_passes 237 = .ok (.iload_n 2, 1) := dk_28 (dk_at dksX1_passes_10 3 rfl rfl)
theorem dX1_passes_238 : decode cX1_passes 238 = .ok (.aaload, 1) := dk_50 (dk_at dksX1_passes_10 4 rfl rfl)
theorem dX1_passes_239 : decode cX1_passes 239 = .ok (.dup, 1) := dk_89 (dk_at dksX1_passes_10 5 rfl rfl)
theorem dX1_passes_240 : decode cX1_passes 240 = .ok (.getfield 158, 3) := dk_180 0 158 (dk_at dksX1_passes_10 6 rfl rfl)
theorem dX1_passes_243 : decode cX1_passes 243 = .ok (.aload_n 0, 1) := dk_42 (dk_at dksX1_passes_10 9 rfl rfl)
theorem dX1_passes_244 : decode cX1_passes 244 = .ok (.getfield 11, 3) := dk_180 0 11 (dk_at dksX1_passes_10 10 rfl rfl)
theorem dX1_passes_247 : decode cX1_passes 247 = .ok (.iload_n 2, 1) := dk_28 (dk_at dksX1_passes_10 13 rfl rfl)
theorem dX1_passes_248 : decode cX1_passes 248 = .ok (.aaload, 1) := dk_50 (dk_at dksX1_passes_10 14 rfl rfl)
theorem dX1_passes_249 : decode cX1_passes 249 = .ok (.invokevirtual 122, 3) := dk_182 0 122 (dk_at dksX1_passes_10 15 rfl rfl)
theorem dX1_passes_252 : decode cX1_passes 252 = .ok (.ifCond .eq 22, 3) := dk_153 0 22 (dk_at dksX1_passes_10 18 rfl rfl)
theorem dX1_passes_255 : decode cX1_passes 255 = .ok (.aload_n 0, 1) := dk_42 (dk_at dksX1_passes_10 21 rfl rfl)
theorem dX1_passes_256 : decode cX1_passes 256 = .ok (.getfield 11, 3) := dk_180 0 11 (dk_at dksX1_passes_11 0 rfl rfl)
theorem dX1_passes_259 : decode cX1_passes 259 = .ok (.iload_n 2, 1) := dk_28 (dk_at dksX1_passes_11 3 rfl rfl)
theorem dX1_passes_260 : decode cX1_passes 260 = .ok (.aaload, 1) := dk_50 (dk_at dksX1_passes_11 4 rfl rfl)
theorem dX1_passes_261 : decode cX1_passes 261 = .ok (.getfield 158, 3) := dk_180 0 158 (dk_at dksX1_passes_11 5 rfl rfl)
theorem dX1_passes_264 : decode cX1_passes 264 = .ok (.sipush 9999, 3) := dk_17 39 15 (dk_at dksX1_passes_11 8 rfl rfl)
theorem dX1_passes_267 : decode cX1_passes 267 = .ok (.if_icmp .ge 7, 3) := dk_162 0 7 (dk_at dksX1_passes_11 11 rfl rfl)
theorem dX1_passes_270 : decode cX1_passes 270 = .ok (.iconst 1, 1) := dk_4 (dk_at dksX1_passes_11 14 rfl rfl)
theorem dX1_passes_271 : decode cX1_passes 271 = .ok (.goto 4, 3) := dk_167 0 4 (dk_at dksX1_passes_11 15 rfl rfl)
theorem dX1_passes_274 : decode cX1_passes 274 = .ok (.iconst 0, 1) := dk_3 (dk_at dksX1_passes_11 18 rfl rfl)
theorem dX1_passes_275 : decode cX1_passes 275 = .ok (.iadd, 1) := dk_96 (dk_at dksX1_passes_11 19 rfl rfl)
theorem dX1_passes_276 : decode cX1_passes 276 = .ok (.putfield 158, 3) := dk_181 0 158 (dk_at dksX1_passes_11 20 rfl rfl)
theorem dX1_passes_279 : decode cX1_passes 279 = .ok (.iinc 2 1, 3) := dk_132 2 1 (dk_at dksX1_passes_12 0 rfl rfl)
theorem dX1_passes_282 : decode cX1_passes 282 = .ok (.goto (-57), 3) := dk_167 255 199 (dk_at dksX1_passes_12 3 rfl rfl)
theorem dX1_passes_285 : decode cX1_passes 285 = .ok (.aload_n 0, 1) := dk_42 (dk_at dksX1_passes_12 6 rfl rfl)
theorem dX1_passes_286 : decode cX1_passes 286 = .ok (.dup, 1) := dk_89 (dk_at dksX1_passes_12 7 rfl rfl)
theorem dX1_passes_287 : decode cX1_passes 287 = .ok (.getfield 87, 3) := dk_180 0 87 (dk_at dksX1_passes_12 8 rfl rfl)
theorem dX1_passes_290 : decode cX1_passes 290 = .ok (.iconst 1, 1) := dk_4 (dk_at dksX1_passes_12 11 rfl rfl)
theorem dX1_passes_291 : decode cX1_passes 291 = .ok (.iadd, 1) := dk_96 (dk_at dksX1_passes_12 12 rfl rfl)
theorem dX1_passes_292 : decode cX1_passes 292 = .ok (.putfield 87, 3) := dk_181 0 87 (dk_at dksX1_passes_12 13 rfl rfl)
theorem dX1_passes_295 : decode cX1_passes 295 = .ok (.iload_n 1, 1) := dk_27 (dk_at dksX1_passes_12 16 rfl rfl)
theorem dX1_passes_296 : decode cX1_passes 296 = .ok (.aload_n 0, 1) := dk_42 (dk_at dksX1_passes_12 17 rfl rfl)
theorem dX1_passes_297 : decode cX1_passes 297 = .ok (.invokevirtual 197, 3) := dk_182 0 197 (dk_at dksX1_passes_12 18 rfl rfl)
theorem dX1_passes_300 : decode cX1_passes 300 = .ok (.iconst (-1), 1) := dk_2 (dk_at dksX1_passes_12 21 rfl rfl)
theorem dX1_passes_301 : decode cX1_passes 301 = .ok (.ixor, 1) := dk_130 (dk_at dksX1_passes_12 22 rfl rfl)
theorem dX1_passes_302 : decode cX1_passes 302 = .ok (.iand, 1) := dk_126 (dk_at dksX1_passes_12 23 rfl rfl)
theorem dX1_passes_303 : decode cX1_passes 303 = .ok (.invokestatic 256, 3) := dk_184 1 0 (dk_at dksX1_passes_13 0 rfl rfl)
theorem dX1_passes_306 : decode cX1_passes 306 = .ok (.ireturn, 1) := dk_172 (dk_at dksX1_passes_13 3 rfl rfl)
abbrev cX1_pays : ByteArray := prog_4_method_20_code
def yX1_pays : MethodName := ⟨RX1, "pays", "(I)V"⟩
def dkwX1_pays_3 : List UInt8 := [3, 27, 21, 4, 182, 0, 220, 42, 4, 27, 29, 21, 4, 100, 182, 0, 220, 42, 27, 182, 0, 213, 177]
abbrev dktX1_pays_3 : List UInt8 := dkwX1_pays_3 ++ []
def dkwX1_pays_2 : List UInt8 := [89, 180, 0, 81, 21, 4, 96, 181, 0, 81, 44, 89, 180, 0, 149, 29, 21, 4, 100, 96, 181, 0, 149, 42]
abbrev dktX1_pays_2 : List UInt8 := dkwX1_pays_2 ++ dktX1_pays_3
def dkwX1_pays_1 : List UInt8 := [182, 0, 122, 153, 0, 20, 21, 4, 44, 44, 182, 0, 190, 4, 182, 0, 209, 96, 54, 4, 167, 255, 229, 42]
abbrev dktX1_pays_1 : List UInt8 := dkwX1_pays_1 ++ dktX1_pays_2
def dkwX1_pays_0 : List UInt8 := [42, 180, 0, 11, 27, 50, 77, 42, 44, 182, 0, 216, 62, 3, 54, 4, 21, 4, 29, 162, 0, 27, 44]
abbrev dktX1_pays_0 : List UInt8 := dkwX1_pays_0 ++ dktX1_pays_1
theorem dksX1_pays_0 : cX1_pays.data.toList.drop 0 = dktX1_pays_0 := by decide +kernel
theorem dksX1_pays_1 : cX1_pays.data.toList.drop 23 = dktX1_pays_1 := dk_seg dksX1_pays_0 23 rfl rfl
theorem dksX1_pays_2 : cX1_pays.data.toList.drop 47 = dktX1_pays_2 := dk_seg dksX1_pays_1 24 rfl rfl
theorem dksX1_pays_3 : cX1_pays.data.toList.drop 71 = dktX1_pays_3 := dk_seg dksX1_pays_2 24 rfl rfl
theorem dX1_pays_0 : decode cX1_pays 0 = .ok (.aload_n 0, 1) := dk_42 (dk_at dksX1_pays_0 0 rfl rfl)
theorem dX1_pays_1 : decode cX1_pays 1 = .ok (.getfield 11, 3) := dk_180 0 11 (dk_at dksX1_pays_0 1 rfl rfl)
theorem dX1_pays_4 : decode cX1_pays 4 = .ok (.iload_n 1, 1) := dk_27 (dk_at dksX1_pays_0 4 rfl rfl)
theorem dX1_pays_5 : decode cX1_pays 5 = .ok (.aaload, 1) := dk_50 (dk_at dksX1_pays_0 5 rfl rfl)
theorem dX1_pays_6 : decode cX1_pays 6 = .ok (.astore_n 2, 1) := dk_77 (dk_at dksX1_pays_0 6 rfl rfl)
theorem dX1_pays_7 : decode cX1_pays 7 = .ok (.aload_n 0, 1) := dk_42 (dk_at dksX1_pays_0 7 rfl rfl)
theorem dX1_pays_8 : decode cX1_pays 8 = .ok (.aload_n 2, 1) := dk_44 (dk_at dksX1_pays_0 8 rfl rfl)
theorem dX1_pays_9 : decode cX1_pays 9 = .ok (.invokevirtual 216, 3) := dk_182 0 216 (dk_at dksX1_pays_0 9 rfl rfl)
theorem dX1_pays_12 : decode cX1_pays 12 = .ok (.istore_n 3, 1) := dk_62 (dk_at dksX1_pays_0 12 rfl rfl)
theorem dX1_pays_13 : decode cX1_pays 13 = .ok (.iconst 0, 1) := dk_3 (dk_at dksX1_pays_0 13 rfl rfl)
theorem dX1_pays_14 : decode cX1_pays 14 = .ok (.istore 4, 2) := dk_54 4 (dk_at dksX1_pays_0 14 rfl rfl)
theorem dX1_pays_16 : decode cX1_pays 16 = .ok (.iload 4, 2) := dk_21 4 (dk_at dksX1_pays_0 16 rfl rfl)
theorem dX1_pays_18 : decode cX1_pays 18 = .ok (.iload_n 3, 1) := dk_29 (dk_at dksX1_pays_0 18 rfl rfl)
theorem dX1_pays_19 : decode cX1_pays 19 = .ok (.if_icmp .ge 27, 3) := dk_162 0 27 (dk_at dksX1_pays_0 19 rfl rfl)
theorem dX1_pays_22 : decode cX1_pays 22 = .ok (.aload_n 2, 1) := dk_44 (dk_at dksX1_pays_0 22 rfl rfl)
theorem dX1_pays_23 : decode cX1_pays 23 = .ok (.invokevirtual 122, 3) := dk_182 0 122 (dk_at dksX1_pays_1 0 rfl rfl)
theorem dX1_pays_26 : decode cX1_pays 26 = .ok (.ifCond .eq 20, 3) := dk_153 0 20 (dk_at dksX1_pays_1 3 rfl rfl)
theorem dX1_pays_29 : decode cX1_pays 29 = .ok (.iload 4, 2) := dk_21 4 (dk_at dksX1_pays_1 6 rfl rfl)
theorem dX1_pays_31 : decode cX1_pays 31 = .ok (.aload_n 2, 1) := dk_44 (dk_at dksX1_pays_1 8 rfl rfl)
theorem dX1_pays_32 : decode cX1_pays 32 = .ok (.aload_n 2, 1) := dk_44 (dk_at dksX1_pays_1 9 rfl rfl)
theorem dX1_pays_33 : decode cX1_pays 33 = .ok (.invokevirtual 190, 3) := dk_182 0 190 (dk_at dksX1_pays_1 10 rfl rfl)
theorem dX1_pays_36 : decode cX1_pays 36 = .ok (.iconst 1, 1) := dk_4 (dk_at dksX1_pays_1 13 rfl rfl)
theorem dX1_pays_37 : decode cX1_pays 37 = .ok (.invokevirtual 209, 3) := dk_182 0 209 (dk_at dksX1_pays_1 14 rfl rfl)
theorem dX1_pays_40 : decode cX1_pays 40 = .ok (.iadd, 1) := dk_96 (dk_at dksX1_pays_1 17 rfl rfl)
theorem dX1_pays_41 : decode cX1_pays 41 = .ok (.istore 4, 2) := dk_54 4 (dk_at dksX1_pays_1 18 rfl rfl)
theorem dX1_pays_43 : decode cX1_pays 43 = .ok (.goto (-27), 3) := dk_167 255 229 (dk_at dksX1_pays_1 20 rfl rfl)
theorem dX1_pays_46 : decode cX1_pays 46 = .ok (.aload_n 0, 1) := dk_42 (dk_at dksX1_pays_1 23 rfl rfl)
theorem dX1_pays_47 : decode cX1_pays 47 = .ok (.dup, 1) := dk_89 (dk_at dksX1_pays_2 0 rfl rfl)
theorem dX1_pays_48 : decode cX1_pays 48 = .ok (.getfield 81, 3) := dk_180 0 81 (dk_at dksX1_pays_2 1 rfl rfl)
theorem dX1_pays_51 : decode cX1_pays 51 = .ok (.iload 4, 2) := dk_21 4 (dk_at dksX1_pays_2 4 rfl rfl)
theorem dX1_pays_53 : decode cX1_pays 53 = .ok (.iadd, 1) := dk_96 (dk_at dksX1_pays_2 6 rfl rfl)
theorem dX1_pays_54 : decode cX1_pays 54 = .ok (.putfield 81, 3) := dk_181 0 81 (dk_at dksX1_pays_2 7 rfl rfl)
theorem dX1_pays_57 : decode cX1_pays 57 = .ok (.aload_n 2, 1) := dk_44 (dk_at dksX1_pays_2 10 rfl rfl)
theorem dX1_pays_58 : decode cX1_pays 58 = .ok (.dup, 1) := dk_89 (dk_at dksX1_pays_2 11 rfl rfl)
theorem dX1_pays_59 : decode cX1_pays 59 = .ok (.getfield 149, 3) := dk_180 0 149 (dk_at dksX1_pays_2 12 rfl rfl)
theorem dX1_pays_62 : decode cX1_pays 62 = .ok (.iload_n 3, 1) := dk_29 (dk_at dksX1_pays_2 15 rfl rfl)
theorem dX1_pays_63 : decode cX1_pays 63 = .ok (.iload 4, 2) := dk_21 4 (dk_at dksX1_pays_2 16 rfl rfl)
theorem dX1_pays_65 : decode cX1_pays 65 = .ok (.isub, 1) := dk_100 (dk_at dksX1_pays_2 18 rfl rfl)
theorem dX1_pays_66 : decode cX1_pays 66 = .ok (.iadd, 1) := dk_96 (dk_at dksX1_pays_2 19 rfl rfl)
theorem dX1_pays_67 : decode cX1_pays 67 = .ok (.putfield 149, 3) := dk_181 0 149 (dk_at dksX1_pays_2 20 rfl rfl)
theorem dX1_pays_70 : decode cX1_pays 70 = .ok (.aload_n 0, 1) := dk_42 (dk_at dksX1_pays_2 23 rfl rfl)
theorem dX1_pays_71 : decode cX1_pays 71 = .ok (.iconst 0, 1) := dk_3 (dk_at dksX1_pays_3 0 rfl rfl)
theorem dX1_pays_72 : decode cX1_pays 72 = .ok (.iload_n 1, 1) := dk_27 (dk_at dksX1_pays_3 1 rfl rfl)
theorem dX1_pays_73 : decode cX1_pays 73 = .ok (.iload 4, 2) := dk_21 4 (dk_at dksX1_pays_3 2 rfl rfl)
theorem dX1_pays_75 : decode cX1_pays 75 = .ok (.invokevirtual 220, 3) := dk_182 0 220 (dk_at dksX1_pays_3 4 rfl rfl)
theorem dX1_pays_78 : decode cX1_pays 78 = .ok (.aload_n 0, 1) := dk_42 (dk_at dksX1_pays_3 7 rfl rfl)
theorem dX1_pays_79 : decode cX1_pays 79 = .ok (.iconst 1, 1) := dk_4 (dk_at dksX1_pays_3 8 rfl rfl)
theorem dX1_pays_80 : decode cX1_pays 80 = .ok (.iload_n 1, 1) := dk_27 (dk_at dksX1_pays_3 9 rfl rfl)
theorem dX1_pays_81 : decode cX1_pays 81 = .ok (.iload_n 3, 1) := dk_29 (dk_at dksX1_pays_3 10 rfl rfl)
theorem dX1_pays_82 : decode cX1_pays 82 = .ok (.iload 4, 2) := dk_21 4 (dk_at dksX1_pays_3 11 rfl rfl)
theorem dX1_pays_84 : decode cX1_pays 84 = .ok (.isub, 1) := dk_100 (dk_at dksX1_pays_3 13 rfl rfl)
theorem dX1_pays_85 : decode cX1_pays 85 = .ok (.invokevirtual 220, 3) := dk_182 0 220 (dk_at dksX1_pays_3 14 rfl rfl)
theorem dX1_pays_88 : decode cX1_pays 88 = .ok (.aload_n 0, 1) := dk_42 (dk_at dksX1_pays_3 17 rfl rfl)
theorem dX1_pays_89 : decode cX1_pays 89 = .ok (.iload_n 1, 1) := dk_27 (dk_at dksX1_pays_3 18 rfl rfl)
theorem dX1_pays_90 : decode cX1_pays 90 = .ok (.invokevirtual 213, 3) := dk_182 0 213 (dk_at dksX1_pays_3 19 rfl rfl)
theorem dX1_pays_93 : decode cX1_pays 93 = .ok (.return_, 1) := dk_177 (dk_at dksX1_pays_3 22 rfl rfl)
abbrev cX1_rent : ByteArray := prog_4_method_11_code
def yX1_rent : MethodName := ⟨RX1, "rent", "(LGingerRents$House;)I"⟩
def dkwX1_rent_0 : List UInt8 := [42, 16, 7, 43, 43, 182, 0, 190, 7, 5, 43, 180, 0, 152, 104, 96, 16, 99, 182, 0, 193, 172]
abbrev dktX1_rent_0 : List UInt8 := dkwX1_rent_0 ++ []
theorem dksX1_rent_0 : cX1_rent.data.toList.drop 0 = dktX1_rent_0 := by decide +kernel
theorem dX1_rent_0 : decode cX1_rent 0 = .ok (.aload_n 0, 1) := dk_42 (dk_at dksX1_rent_0 0 rfl rfl)
theorem dX1_rent_1 : decode cX1_rent 1 = .ok (.bipush 7, 2) := dk_16 7 (dk_at dksX1_rent_0 1 rfl rfl)
theorem dX1_rent_3 : decode cX1_rent 3 = .ok (.aload_n 1, 1) := dk_43 (dk_at dksX1_rent_0 3 rfl rfl)
theorem dX1_rent_4 : decode cX1_rent 4 = .ok (.aload_n 1, 1) := dk_43 (dk_at dksX1_rent_0 4 rfl rfl)
theorem dX1_rent_5 : decode cX1_rent 5 = .ok (.invokevirtual 190, 3) := dk_182 0 190 (dk_at dksX1_rent_0 5 rfl rfl)
theorem dX1_rent_8 : decode cX1_rent 8 = .ok (.iconst 4, 1) := dk_7 (dk_at dksX1_rent_0 8 rfl rfl)
theorem dX1_rent_9 : decode cX1_rent 9 = .ok (.iconst 2, 1) := dk_5 (dk_at dksX1_rent_0 9 rfl rfl)
theorem dX1_rent_10 : decode cX1_rent 10 = .ok (.aload_n 1, 1) := dk_43 (dk_at dksX1_rent_0 10 rfl rfl)
theorem dX1_rent_11 : decode cX1_rent 11 = .ok (.getfield 152, 3) := dk_180 0 152 (dk_at dksX1_rent_0 11 rfl rfl)
theorem dX1_rent_14 : decode cX1_rent 14 = .ok (.imul, 1) := dk_104 (dk_at dksX1_rent_0 14 rfl rfl)
theorem dX1_rent_15 : decode cX1_rent 15 = .ok (.iadd, 1) := dk_96 (dk_at dksX1_rent_0 15 rfl rfl)
theorem dX1_rent_16 : decode cX1_rent 16 = .ok (.bipush 99, 2) := dk_16 99 (dk_at dksX1_rent_0 16 rfl rfl)
theorem dX1_rent_18 : decode cX1_rent 18 = .ok (.invokevirtual 193, 3) := dk_182 0 193 (dk_at dksX1_rent_0 18 rfl rfl)
theorem dX1_rent_21 : decode cX1_rent 21 = .ok (.ireturn, 1) := dk_172 (dk_at dksX1_rent_0 21 rfl rfl)
abbrev cX1_tells : ByteArray := prog_4_method_10_code
def yX1_tells : MethodName := ⟨RX1, "tells", "(ILGingerRents$House;III)I"⟩
def dkwX1_tells_4 : List UInt8 := [3, 21, 5, 184, 0, 186, 172]
abbrev dktX1_tells_4 : List UInt8 := dkwX1_tells_4 ++ []
def dkwX1_tells_3 : List UInt8 := [25, 7, 180, 0, 183, 42, 182, 0, 177, 3, 21, 5, 184, 0, 186, 172, 132, 6, 1, 167, 255, 181, 21, 4]
abbrev dktX1_tells_3 : List UInt8 := dkwX1_tells_3 ++ dktX1_tells_4
def dkwX1_tells_2 : List UInt8 := [160, 0, 40, 25, 7, 180, 0, 173, 198, 0, 16, 25, 7, 180, 0, 173, 42, 182, 0, 177, 4, 160, 0, 19]
abbrev dktX1_tells_2 : List UInt8 := dkwX1_tells_2 ++ dktX1_tells_3
def dkwX1_tells_1 : List UInt8 := [162, 0, 69, 42, 180, 0, 55, 21, 6, 182, 0, 164, 192, 0, 168, 58, 7, 25, 7, 180, 0, 170, 27]
abbrev dktX1_tells_1 : List UInt8 := dkwX1_tells_1 ++ dktX1_tells_2
def dkwX1_tells_0 : List UInt8 := [42, 44, 181, 0, 126, 42, 29, 181, 0, 133, 3, 54, 6, 21, 6, 42, 180, 0, 55, 182, 0, 161]
abbrev dktX1_tells_0 : List UInt8 := dkwX1_tells_0 ++ dktX1_tells_1
theorem dksX1_tells_0 : cX1_tells.data.toList.drop 0 = dktX1_tells_0 := by decide +kernel
theorem dksX1_tells_1 : cX1_tells.data.toList.drop 22 = dktX1_tells_1 := dk_seg dksX1_tells_0 22 rfl rfl
theorem dksX1_tells_2 : cX1_tells.data.toList.drop 45 = dktX1_tells_2 := dk_seg dksX1_tells_1 23 rfl rfl
theorem dksX1_tells_3 : cX1_tells.data.toList.drop 69 = dktX1_tells_3 := dk_seg dksX1_tells_2 24 rfl rfl
theorem dksX1_tells_4 : cX1_tells.data.toList.drop 93 = dktX1_tells_4 := dk_seg dksX1_tells_3 24 rfl rfl
theorem dX1_tells_0 : decode cX1_tells 0 = .ok (.aload_n 0, 1) := dk_42 (dk_at dksX1_tells_0 0 rfl rfl)
theorem dX1_tells_1 : decode cX1_tells 1 = .ok (.aload_n 2, 1) := dk_44 (dk_at dksX1_tells_0 1 rfl rfl)
theorem dX1_tells_2 : decode cX1_tells 2 = .ok (.putfield 126, 3) := dk_181 0 126 (dk_at dksX1_tells_0 2 rfl rfl)
theorem dX1_tells_5 : decode cX1_tells 5 = .ok (.aload_n 0, 1) := dk_42 (dk_at dksX1_tells_0 5 rfl rfl)
theorem dX1_tells_6 : decode cX1_tells 6 = .ok (.iload_n 3, 1) := dk_29 (dk_at dksX1_tells_0 6 rfl rfl)
theorem dX1_tells_7 : decode cX1_tells 7 = .ok (.putfield 133, 3) := dk_181 0 133 (dk_at dksX1_tells_0 7 rfl rfl)
theorem dX1_tells_10 : decode cX1_tells 10 = .ok (.iconst 0, 1) := dk_3 (dk_at dksX1_tells_0 10 rfl rfl)
theorem dX1_tells_11 : decode cX1_tells 11 = .ok (.istore 6, 2) := dk_54 6 (dk_at dksX1_tells_0 11 rfl rfl)
theorem dX1_tells_13 : decode cX1_tells 13 = .ok (.iload 6, 2) := dk_21 6 (dk_at dksX1_tells_0 13 rfl rfl)
theorem dX1_tells_15 : decode cX1_tells 15 = .ok (.aload_n 0, 1) := dk_42 (dk_at dksX1_tells_0 15 rfl rfl)
theorem dX1_tells_16 : decode cX1_tells 16 = .ok (.getfield 55, 3) := dk_180 0 55 (dk_at dksX1_tells_0 16 rfl rfl)
theorem dX1_tells_19 : decode cX1_tells 19 = .ok (.invokevirtual 161, 3) := dk_182 0 161 (dk_at dksX1_tells_0 19 rfl rfl)
theorem dX1_tells_22 : decode cX1_tells 22 = .ok (.if_icmp .ge 69, 3) := dk_162 0 69 (dk_at dksX1_tells_1 0 rfl rfl)
theorem dX1_tells_25 : decode cX1_tells 25 = .ok (.aload_n 0, 1) := dk_42 (dk_at dksX1_tells_1 3 rfl rfl)
theorem dX1_tells_26 : decode cX1_tells 26 = .ok (.getfield 55, 3) := dk_180 0 55 (dk_at dksX1_tells_1 4 rfl rfl)
theorem dX1_tells_29 : decode cX1_tells 29 = .ok (.iload 6, 2) := dk_21 6 (dk_at dksX1_tells_1 7 rfl rfl)
theorem dX1_tells_31 : decode cX1_tells 31 = .ok (.invokevirtual 164, 3) := dk_182 0 164 (dk_at dksX1_tells_1 9 rfl rfl)
theorem dX1_tells_34 : decode cX1_tells 34 = .ok (.checkcast 168, 3) := dk_192 0 168 (dk_at dksX1_tells_1 12 rfl rfl)
theorem dX1_tells_37 : decode cX1_tells 37 = .ok (.astore 7, 2) := dk_58 7 (dk_at dksX1_tells_1 15 rfl rfl)
theorem dX1_tells_39 : decode cX1_tells 39 = .ok (.aload 7, 2) := dk_25 7 (dk_at dksX1_tells_1 17 rfl rfl)
theorem dX1_tells_41 : decode cX1_tells 41 = .ok (.getfield 170, 3) := dk_180 0 170 (dk_at dksX1_tells_1 19 rfl rfl)
theorem dX1_tells_44 : decode cX1_tells 44 = .ok (.iload_n 1, 1) := dk_27 (dk_at dksX1_tells_1 22 rfl rfl)
theorem dX1_tells_45 : decode cX1_tells 45 = .ok (.if_icmp .ne 40, 3) := dk_160 0 40 (dk_at dksX1_tells_2 0 rfl rfl)
theorem dX1_tells_48 : decode cX1_tells 48 = .ok (.aload 7, 2) := dk_25 7 (dk_at dksX1_tells_2 3 rfl rfl)
theorem dX1_tells_50 : decode cX1_tells 50 = .ok (.getfield 173, 3) := dk_180 0 173 (dk_at dksX1_tells_2 5 rfl rfl)
theorem dX1_tells_53 : decode cX1_tells 53 = .ok (.ifnull 16, 3) := dk_198 0 16 (dk_at dksX1_tells_2 8 rfl rfl)
theorem dX1_tells_56 : decode cX1_tells 56 = .ok (.aload 7, 2) := dk_25 7 (dk_at dksX1_tells_2 11 rfl rfl)
theorem dX1_tells_58 : decode cX1_tells 58 = .ok (.getfield 173, 3) := dk_180 0 173 (dk_at dksX1_tells_2 13 rfl rfl)
theorem dX1_tells_61 : decode cX1_tells 61 = .ok (.aload_n 0, 1) := dk_42 (dk_at dksX1_tells_2 16 rfl rfl)
theorem dX1_tells_62 : decode cX1_tells 62 = .ok (.invokevirtual 177, 3) := dk_182 0 177 (dk_at dksX1_tells_2 17 rfl rfl)
theorem dX1_tells_65 : decode cX1_tells 65 = .ok (.iconst 1, 1) := dk_4 (dk_at dksX1_tells_2 20 rfl rfl)
theorem dX1_tells_66 : decode cX1_tells 66 = .ok (.if_icmp .ne 19, 3) := dk_160 0 19 (dk_at dksX1_tells_2 21 rfl rfl)
theorem dX1_tells_69 : decode cX1_tells 69 = .ok (.aload 7, 2) := dk_25 7 (dk_at dksX1_tells_3 0 rfl rfl)
theorem dX1_tells_71 : decode cX1_tells 71 = .ok (.getfield 183, 3) := dk_180 0 183 (dk_at dksX1_tells_3 2 rfl rfl)
theorem dX1_tells_74 : decode cX1_tells 74 = .ok (.aload_n 0, 1) := dk_42 (dk_at dksX1_tells_3 5 rfl rfl)
theorem dX1_tells_75 : decode cX1_tells 75 = .ok (.invokevirtual 177, 3) := dk_182 0 177 (dk_at dksX1_tells_3 6 rfl rfl)
theorem dX1_tells_78 : decode cX1_tells 78 = .ok (.iconst 0, 1) := dk_3 (dk_at dksX1_tells_3 9 rfl rfl)
theorem dX1_tells_79 : decode cX1_tells 79 = .ok (.iload 5, 2) := dk_21 5 (dk_at dksX1_tells_3 10 rfl rfl)
theorem dX1_tells_81 : decode cX1_tells 81 = .ok (.invokestatic 186, 3) := dk_184 0 186 (dk_at dksX1_tells_3 12 rfl rfl)
theorem dX1_tells_84 : decode cX1_tells 84 = .ok (.ireturn, 1) := dk_172 (dk_at dksX1_tells_3 15 rfl rfl)
theorem dX1_tells_85 : decode cX1_tells 85 = .ok (.iinc 6 1, 3) := dk_132 6 1 (dk_at dksX1_tells_3 16 rfl rfl)
theorem dX1_tells_88 : decode cX1_tells 88 = .ok (.goto (-75), 3) := dk_167 255 181 (dk_at dksX1_tells_3 19 rfl rfl)
theorem dX1_tells_91 : decode cX1_tells 91 = .ok (.iload 4, 2) := dk_21 4 (dk_at dksX1_tells_3 22 rfl rfl)
theorem dX1_tells_93 : decode cX1_tells 93 = .ok (.iconst 0, 1) := dk_3 (dk_at dksX1_tells_4 0 rfl rfl)
theorem dX1_tells_94 : decode cX1_tells 94 = .ok (.iload 5, 2) := dk_21 5 (dk_at dksX1_tells_4 1 rfl rfl)
theorem dX1_tells_96 : decode cX1_tells 96 = .ok (.invokestatic 186, 3) := dk_184 0 186 (dk_at dksX1_tells_4 3 rfl rfl)
theorem dX1_tells_99 : decode cX1_tells 99 = .ok (.ireturn, 1) := dk_172 (dk_at dksX1_tells_4 6 rfl rfl)
abbrev cX1_fact : ByteArray := prog_4_method_9_code
def yX1_fact : MethodName := ⟨RX1, "fact", "(I)I"⟩
def dkwX1_fact_6 : List UInt8 := [180, 0, 78, 172, 42, 180, 0, 87, 172]
abbrev dktX1_fact_6 : List UInt8 := dkwX1_fact_6 ++ []
def dkwX1_fact_5 : List UInt8 := [153, 0, 7, 4, 167, 0, 4, 3, 172, 42, 180, 0, 126, 180, 0, 158, 172, 42, 180, 0, 74, 172, 42]
abbrev dktX1_fact_5 : List UInt8 := dkwX1_fact_5 ++ dktX1_fact_6
def dkwX1_fact_4 : List UInt8 := [180, 0, 126, 180, 0, 149, 172, 42, 180, 0, 126, 180, 0, 152, 172, 42, 180, 0, 126, 180, 0, 155]
abbrev dktX1_fact_4 : List UInt8 := dkwX1_fact_4 ++ dktX1_fact_5
def dkwX1_fact_3 : List UInt8 := [180, 0, 126, 180, 0, 140, 172, 42, 180, 0, 126, 180, 0, 143, 172, 42, 180, 0, 126, 180, 0, 146, 172, 42]
abbrev dktX1_fact_3 : List UInt8 := dkwX1_fact_3 ++ dktX1_fact_4
def dkwX1_fact_2 : List UInt8 := [42, 180, 0, 126, 180, 0, 130, 42, 180, 0, 133, 46, 172, 42, 180, 0, 126, 182, 0, 136, 172, 42]
abbrev dktX1_fact_2 : List UInt8 := dkwX1_fact_2 ++ dktX1_fact_3
def dkwX1_fact_1 : List UInt8 := [170, 0, 0, 0, 0, 0, 154, 0, 0, 0, 0, 0, 0, 0, 10, 0, 0, 0, 59, 0, 0, 0, 72, 0, 0, 0, 80, 0, 0, 0, 88, 0, 0, 0, 96, 0, 0, 0, 104, 0, 0, 0, 112, 0, 0, 0, 120, 0, 0, 0, 136, 0, 0, 0, 144, 0, 0, 0, 149]
abbrev dktX1_fact_1 : List UInt8 := dkwX1_fact_1 ++ dktX1_fact_2
def dkwX1_fact_0 : List UInt8 := [27]
abbrev dktX1_fact_0 : List UInt8 := dkwX1_fact_0 ++ dktX1_fact_1
theorem dksX1_fact_0 : cX1_fact.data.toList.drop 0 = dktX1_fact_0 := by decide +kernel
theorem dksX1_fact_1 : cX1_fact.data.toList.drop 1 = dktX1_fact_1 := dk_seg dksX1_fact_0 1 rfl rfl
theorem dksX1_fact_2 : cX1_fact.data.toList.drop 60 = dktX1_fact_2 := dk_seg dksX1_fact_1 59 rfl rfl
theorem dksX1_fact_3 : cX1_fact.data.toList.drop 82 = dktX1_fact_3 := dk_seg dksX1_fact_2 22 rfl rfl
theorem dksX1_fact_4 : cX1_fact.data.toList.drop 106 = dktX1_fact_4 := dk_seg dksX1_fact_3 24 rfl rfl
theorem dksX1_fact_5 : cX1_fact.data.toList.drop 128 = dktX1_fact_5 := dk_seg dksX1_fact_4 22 rfl rfl
theorem dksX1_fact_6 : cX1_fact.data.toList.drop 151 = dktX1_fact_6 := dk_seg dksX1_fact_5 23 rfl rfl
theorem dX1_fact_0 : decode cX1_fact 0 = .ok (.iload_n 1, 1) := dk_27 (dk_at dksX1_fact_0 0 rfl rfl)
theorem dX1_fact_1 : decode cX1_fact 1 = .ok (.tableswitch 154 0 10 #[59, 72, 80, 88, 96, 104, 112, 120, 136, 144, 149], 59) := by decide +kernel
theorem dX1_fact_60 : decode cX1_fact 60 = .ok (.aload_n 0, 1) := dk_42 (dk_at dksX1_fact_2 0 rfl rfl)
theorem dX1_fact_61 : decode cX1_fact 61 = .ok (.getfield 126, 3) := dk_180 0 126 (dk_at dksX1_fact_2 1 rfl rfl)
theorem dX1_fact_64 : decode cX1_fact 64 = .ok (.getfield 130, 3) := dk_180 0 130 (dk_at dksX1_fact_2 4 rfl rfl)
theorem dX1_fact_67 : decode cX1_fact 67 = .ok (.aload_n 0, 1) := dk_42 (dk_at dksX1_fact_2 7 rfl rfl)
theorem dX1_fact_68 : decode cX1_fact 68 = .ok (.getfield 133, 3) := dk_180 0 133 (dk_at dksX1_fact_2 8 rfl rfl)
theorem dX1_fact_71 : decode cX1_fact 71 = .ok (.iaload, 1) := dk_46 (dk_at dksX1_fact_2 11 rfl rfl)
theorem dX1_fact_72 : decode cX1_fact 72 = .ok (.ireturn, 1) := dk_172 (dk_at dksX1_fact_2 12 rfl rfl)
theorem dX1_fact_73 : decode cX1_fact 73 = .ok (.aload_n 0, 1) := dk_42 (dk_at dksX1_fact_2 13 rfl rfl)
theorem dX1_fact_74 : decode cX1_fact 74 = .ok (.getfield 126, 3) := dk_180 0 126 (dk_at dksX1_fact_2 14 rfl rfl)
theorem dX1_fact_77 : decode cX1_fact 77 = .ok (.invokevirtual 136, 3) := dk_182 0 136 (dk_at dksX1_fact_2 17 rfl rfl)
theorem dX1_fact_80 : decode cX1_fact 80 = .ok (.ireturn, 1) := dk_172 (dk_at dksX1_fact_2 20 rfl rfl)
theorem dX1_fact_81 : decode cX1_fact 81 = .ok (.aload_n 0, 1) := dk_42 (dk_at dksX1_fact_2 21 rfl rfl)
theorem dX1_fact_82 : decode cX1_fact 82 = .ok (.getfield 126, 3) := dk_180 0 126 (dk_at dksX1_fact_3 0 rfl rfl)
theorem dX1_fact_85 : decode cX1_fact 85 = .ok (.getfield 140, 3) := dk_180 0 140 (dk_at dksX1_fact_3 3 rfl rfl)
theorem dX1_fact_88 : decode cX1_fact 88 = .ok (.ireturn, 1) := dk_172 (dk_at dksX1_fact_3 6 rfl rfl)
theorem dX1_fact_89 : decode cX1_fact 89 = .ok (.aload_n 0, 1) := dk_42 (dk_at dksX1_fact_3 7 rfl rfl)
theorem dX1_fact_90 : decode cX1_fact 90 = .ok (.getfield 126, 3) := dk_180 0 126 (dk_at dksX1_fact_3 8 rfl rfl)
theorem dX1_fact_93 : decode cX1_fact 93 = .ok (.getfield 143, 3) := dk_180 0 143 (dk_at dksX1_fact_3 11 rfl rfl)
theorem dX1_fact_96 : decode cX1_fact 96 = .ok (.ireturn, 1) := dk_172 (dk_at dksX1_fact_3 14 rfl rfl)
theorem dX1_fact_97 : decode cX1_fact 97 = .ok (.aload_n 0, 1) := dk_42 (dk_at dksX1_fact_3 15 rfl rfl)
theorem dX1_fact_98 : decode cX1_fact 98 = .ok (.getfield 126, 3) := dk_180 0 126 (dk_at dksX1_fact_3 16 rfl rfl)
theorem dX1_fact_101 : decode cX1_fact 101 = .ok (.getfield 146, 3) := dk_180 0 146 (dk_at dksX1_fact_3 19 rfl rfl)
theorem dX1_fact_104 : decode cX1_fact 104 = .ok (.ireturn, 1) := dk_172 (dk_at dksX1_fact_3 22 rfl rfl)
theorem dX1_fact_105 : decode cX1_fact 105 = .ok (.aload_n 0, 1) := dk_42 (dk_at dksX1_fact_3 23 rfl rfl)
theorem dX1_fact_106 : decode cX1_fact 106 = .ok (.getfield 126, 3) := dk_180 0 126 (dk_at dksX1_fact_4 0 rfl rfl)
theorem dX1_fact_109 : decode cX1_fact 109 = .ok (.getfield 149, 3) := dk_180 0 149 (dk_at dksX1_fact_4 3 rfl rfl)
theorem dX1_fact_112 : decode cX1_fact 112 = .ok (.ireturn, 1) := dk_172 (dk_at dksX1_fact_4 6 rfl rfl)
theorem dX1_fact_113 : decode cX1_fact 113 = .ok (.aload_n 0, 1) := dk_42 (dk_at dksX1_fact_4 7 rfl rfl)
theorem dX1_fact_114 : decode cX1_fact 114 = .ok (.getfield 126, 3) := dk_180 0 126 (dk_at dksX1_fact_4 8 rfl rfl)
theorem dX1_fact_117 : decode cX1_fact 117 = .ok (.getfield 152, 3) := dk_180 0 152 (dk_at dksX1_fact_4 11 rfl rfl)
theorem dX1_fact_120 : decode cX1_fact 120 = .ok (.ireturn, 1) := dk_172 (dk_at dksX1_fact_4 14 rfl rfl)
theorem dX1_fact_121 : decode cX1_fact 121 = .ok (.aload_n 0, 1) := dk_42 (dk_at dksX1_fact_4 15 rfl rfl)
theorem dX1_fact_122 : decode cX1_fact 122 = .ok (.getfield 126, 3) := dk_180 0 126 (dk_at dksX1_fact_4 16 rfl rfl)
theorem dX1_fact_125 : decode cX1_fact 125 = .ok (.getfield 155, 3) := dk_180 0 155 (dk_at dksX1_fact_4 19 rfl rfl)
theorem dX1_fact_128 : decode cX1_fact 128 = .ok (.ifCond .eq 7, 3) := dk_153 0 7 (dk_at dksX1_fact_5 0 rfl rfl)
theorem dX1_fact_131 : decode cX1_fact 131 = .ok (.iconst 1, 1) := dk_4 (dk_at dksX1_fact_5 3 rfl rfl)
theorem dX1_fact_132 : decode cX1_fact 132 = .ok (.goto 4, 3) := dk_167 0 4 (dk_at dksX1_fact_5 4 rfl rfl)
theorem dX1_fact_135 : decode cX1_fact 135 = .ok (.iconst 0, 1) := dk_3 (dk_at dksX1_fact_5 7 rfl rfl)
theorem dX1_fact_136 : decode cX1_fact 136 = .ok (.ireturn, 1) := dk_172 (dk_at dksX1_fact_5 8 rfl rfl)
theorem dX1_fact_137 : decode cX1_fact 137 = .ok (.aload_n 0, 1) := dk_42 (dk_at dksX1_fact_5 9 rfl rfl)
theorem dX1_fact_138 : decode cX1_fact 138 = .ok (.getfield 126, 3) := dk_180 0 126 (dk_at dksX1_fact_5 10 rfl rfl)
theorem dX1_fact_141 : decode cX1_fact 141 = .ok (.getfield 158, 3) := dk_180 0 158 (dk_at dksX1_fact_5 13 rfl rfl)
theorem dX1_fact_144 : decode cX1_fact 144 = .ok (.ireturn, 1) := dk_172 (dk_at dksX1_fact_5 16 rfl rfl)
theorem dX1_fact_145 : decode cX1_fact 145 = .ok (.aload_n 0, 1) := dk_42 (dk_at dksX1_fact_5 17 rfl rfl)
theorem dX1_fact_146 : decode cX1_fact 146 = .ok (.getfield 74, 3) := dk_180 0 74 (dk_at dksX1_fact_5 18 rfl rfl)
theorem dX1_fact_149 : decode cX1_fact 149 = .ok (.ireturn, 1) := dk_172 (dk_at dksX1_fact_5 21 rfl rfl)
theorem dX1_fact_150 : decode cX1_fact 150 = .ok (.aload_n 0, 1) := dk_42 (dk_at dksX1_fact_5 22 rfl rfl)
theorem dX1_fact_151 : decode cX1_fact 151 = .ok (.getfield 78, 3) := dk_180 0 78 (dk_at dksX1_fact_6 0 rfl rfl)
theorem dX1_fact_154 : decode cX1_fact 154 = .ok (.ireturn, 1) := dk_172 (dk_at dksX1_fact_6 3 rfl rfl)
theorem dX1_fact_155 : decode cX1_fact 155 = .ok (.aload_n 0, 1) := dk_42 (dk_at dksX1_fact_6 4 rfl rfl)
theorem dX1_fact_156 : decode cX1_fact 156 = .ok (.getfield 87, 3) := dk_180 0 87 (dk_at dksX1_fact_6 5 rfl rfl)
theorem dX1_fact_159 : decode cX1_fact 159 = .ok (.ireturn, 1) := dk_172 (dk_at dksX1_fact_6 8 rfl rfl)
abbrev cX1_counts : ByteArray := prog_4_method_7_code
def yX1_counts : MethodName := ⟨RX1, "counts", "(III)V"⟩
def dkwX1_counts_0 : List UInt8 := [29, 158, 0, 10, 42, 27, 28, 29, 182, 0, 118, 177]
abbrev dktX1_counts_0 : List UInt8 := dkwX1_counts_0 ++ []
theorem dksX1_counts_0 : cX1_counts.data.toList.drop 0 = dktX1_counts_0 := by decide +kernel
theorem dX1_counts_0 : decode cX1_counts 0 = .ok (.iload_n 3, 1) := dk_29 (dk_at dksX1_counts_0 0 rfl rfl)
theorem dX1_counts_1 : decode cX1_counts 1 = .ok (.ifCond .le 10, 3) := dk_158 0 10 (dk_at dksX1_counts_0 1 rfl rfl)
theorem dX1_counts_4 : decode cX1_counts 4 = .ok (.aload_n 0, 1) := dk_42 (dk_at dksX1_counts_0 4 rfl rfl)
theorem dX1_counts_5 : decode cX1_counts 5 = .ok (.iload_n 1, 1) := dk_27 (dk_at dksX1_counts_0 5 rfl rfl)
theorem dX1_counts_6 : decode cX1_counts 6 = .ok (.iload_n 2, 1) := dk_28 (dk_at dksX1_counts_0 6 rfl rfl)
theorem dX1_counts_7 : decode cX1_counts 7 = .ok (.iload_n 3, 1) := dk_29 (dk_at dksX1_counts_0 7 rfl rfl)
theorem dX1_counts_8 : decode cX1_counts 8 = .ok (.invokevirtual 118, 3) := dk_182 0 118 (dk_at dksX1_counts_0 8 rfl rfl)
theorem dX1_counts_11 : decode cX1_counts 11 = .ok (.return_, 1) := dk_177 (dk_at dksX1_counts_0 11 rfl rfl)
abbrev cX1_isGnawed : ByteArray := prog_4_method_21_code
def yX1_isGnawed : MethodName := ⟨RX1, "isGnawed", "(I)V"⟩
def dkwX1_isGnawed_4 : List UInt8 := [180, 0, 84, 29, 96, 181, 0, 84, 42, 5, 27, 29, 182, 0, 220, 177]
abbrev dktX1_isGnawed_4 : List UInt8 := dkwX1_isGnawed_4 ++ []
def dkwX1_isGnawed_3 : List UInt8 := [21, 5, 162, 0, 13, 29, 44, 21, 4, 4, 182, 0, 209, 96, 62, 132, 4, 1, 167, 255, 179, 42, 89]
abbrev dktX1_isGnawed_3 : List UInt8 := dkwX1_isGnawed_3 ++ dktX1_isGnawed_4
def dkwX1_isGnawed_2 : List UInt8 := [180, 0, 114, 153, 0, 14, 21, 5, 17, 1, 244, 161, 0, 28, 167, 0, 15, 42, 17, 3, 232, 182, 0, 227]
abbrev dktX1_isGnawed_2 : List UInt8 := dkwX1_isGnawed_2 ++ dktX1_isGnawed_3
def dkwX1_isGnawed_1 : List UInt8 := [46, 154, 0, 7, 3, 167, 0, 10, 42, 44, 21, 4, 182, 0, 223, 54, 5, 21, 5, 158, 0, 43, 42]
abbrev dktX1_isGnawed_1 : List UInt8 := dkwX1_isGnawed_1 ++ dktX1_isGnawed_2
def dkwX1_isGnawed_0 : List UInt8 := [42, 180, 0, 11, 27, 50, 77, 3, 62, 3, 54, 4, 21, 4, 7, 162, 0, 77, 44, 180, 0, 130, 21, 4]
abbrev dktX1_isGnawed_0 : List UInt8 := dkwX1_isGnawed_0 ++ dktX1_isGnawed_1
theorem dksX1_isGnawed_0 : cX1_isGnawed.data.toList.drop 0 = dktX1_isGnawed_0 := by decide +kernel
theorem dksX1_isGnawed_1 : cX1_isGnawed.data.toList.drop 24 = dktX1_isGnawed_1 := dk_seg dksX1_isGnawed_0 24 rfl rfl
theorem dksX1_isGnawed_2 : cX1_isGnawed.data.toList.drop 47 = dktX1_isGnawed_2 := dk_seg dksX1_isGnawed_1 23 rfl rfl
theorem dksX1_isGnawed_3 : cX1_isGnawed.data.toList.drop 71 = dktX1_isGnawed_3 := dk_seg dksX1_isGnawed_2 24 rfl rfl
theorem dksX1_isGnawed_4 : cX1_isGnawed.data.toList.drop 94 = dktX1_isGnawed_4 := dk_seg dksX1_isGnawed_3 23 rfl rfl
theorem dX1_isGnawed_0 : decode cX1_isGnawed 0 = .ok (.aload_n 0, 1) := dk_42 (dk_at dksX1_isGnawed_0 0 rfl rfl)
theorem dX1_isGnawed_1 : decode cX1_isGnawed 1 = .ok (.getfield 11, 3) := dk_180 0 11 (dk_at dksX1_isGnawed_0 1 rfl rfl)
theorem dX1_isGnawed_4 : decode cX1_isGnawed 4 = .ok (.iload_n 1, 1) := dk_27 (dk_at dksX1_isGnawed_0 4 rfl rfl)
theorem dX1_isGnawed_5 : decode cX1_isGnawed 5 = .ok (.aaload, 1) := dk_50 (dk_at dksX1_isGnawed_0 5 rfl rfl)
theorem dX1_isGnawed_6 : decode cX1_isGnawed 6 = .ok (.astore_n 2, 1) := dk_77 (dk_at dksX1_isGnawed_0 6 rfl rfl)
theorem dX1_isGnawed_7 : decode cX1_isGnawed 7 = .ok (.iconst 0, 1) := dk_3 (dk_at dksX1_isGnawed_0 7 rfl rfl)
theorem dX1_isGnawed_8 : decode cX1_isGnawed 8 = .ok (.istore_n 3, 1) := dk_62 (dk_at dksX1_isGnawed_0 8 rfl rfl)
theorem dX1_isGnawed_9 : decode cX1_isGnawed 9 = .ok (.iconst 0, 1) := dk_3 (dk_at dksX1_isGnawed_0 9 rfl rfl)
theorem dX1_isGnawed_10 : decode cX1_isGnawed 10 = .ok (.istore 4, 2) := dk_54 4 (dk_at dksX1_isGnawed_0 10 rfl rfl)
theorem dX1_isGnawed_12 : decode cX1_isGnawed 12 = .ok (.iload 4, 2) := dk_21 4 (dk_at dksX1_isGnawed_0 12 rfl rfl)
theorem dX1_isGnawed_14 : decode cX1_isGnawed 14 = .ok (.iconst 4, 1) := dk_7 (dk_at dksX1_isGnawed_0 14 rfl rfl)
theorem dX1_isGnawed_15 : decode cX1_isGnawed 15 = .ok (.if_icmp .ge 77, 3) := dk_162 0 77 (dk_at dksX1_isGnawed_0 15 rfl rfl)
theorem dX1_isGnawed_18 : decode cX1_isGnawed 18 = .ok (.aload_n 2, 1) := dk_44 (dk_at dksX1_isGnawed_0 18 rfl rfl)
theorem dX1_isGnawed_19 : decode cX1_isGnawed 19 = .ok (.getfield 130, 3) := dk_180 0 130 (dk_at dksX1_isGnawed_0 19 rfl rfl)
theorem dX1_isGnawed_22 : decode cX1_isGnawed 22 = .ok (.iload 4, 2) := dk_21 4 (dk_at dksX1_isGnawed_0 22 rfl rfl)
theorem dX1_isGnawed_24 : decode cX1_isGnawed 24 = .ok (.iaload, 1) := dk_46 (dk_at dksX1_isGnawed_1 0 rfl rfl)
theorem dX1_isGnawed_25 : decode cX1_isGnawed 25 = .ok (.ifCond .ne 7, 3) := dk_154 0 7 (dk_at dksX1_isGnawed_1 1 rfl rfl)
theorem dX1_isGnawed_28 : decode cX1_isGnawed 28 = .ok (.iconst 0, 1) := dk_3 (dk_at dksX1_isGnawed_1 4 rfl rfl)
theorem dX1_isGnawed_29 : decode cX1_isGnawed 29 = .ok (.goto 10, 3) := dk_167 0 10 (dk_at dksX1_isGnawed_1 5 rfl rfl)
theorem dX1_isGnawed_32 : decode cX1_isGnawed 32 = .ok (.aload_n 0, 1) := dk_42 (dk_at dksX1_isGnawed_1 8 rfl rfl)
theorem dX1_isGnawed_33 : decode cX1_isGnawed 33 = .ok (.aload_n 2, 1) := dk_44 (dk_at dksX1_isGnawed_1 9 rfl rfl)
theorem dX1_isGnawed_34 : decode cX1_isGnawed 34 = .ok (.iload 4, 2) := dk_21 4 (dk_at dksX1_isGnawed_1 10 rfl rfl)
theorem dX1_isGnawed_36 : decode cX1_isGnawed 36 = .ok (.invokevirtual 223, 3) := dk_182 0 223 (dk_at dksX1_isGnawed_1 12 rfl rfl)
theorem dX1_isGnawed_39 : decode cX1_isGnawed 39 = .ok (.istore 5, 2) := dk_54 5 (dk_at dksX1_isGnawed_1 15 rfl rfl)
theorem dX1_isGnawed_41 : decode cX1_isGnawed 41 = .ok (.iload 5, 2) := dk_21 5 (dk_at dksX1_isGnawed_1 17 rfl rfl)
theorem dX1_isGnawed_43 : decode cX1_isGnawed 43 = .ok (.ifCond .le 43, 3) := dk_158 0 43 (dk_at dksX1_isGnawed_1 19 rfl rfl)
theorem dX1_isGnawed_46 : decode cX1_isGnawed 46 = .ok (.aload_n 0, 1) := dk_42 (dk_at dksX1_isGnawed_1 22 rfl rfl)
theorem dX1_isGnawed_47 : decode cX1_isGnawed 47 = .ok (.getfield 114, 3) := dk_180 0 114 (dk_at dksX1_isGnawed_2 0 rfl rfl)
theorem dX1_isGnawed_50 : decode cX1_isGnawed 50 = .ok (.ifCond .eq 14, 3) := dk_153 0 14 (dk_at dksX1_isGnawed_2 3 rfl rfl)
theorem dX1_isGnawed_53 : decode cX1_isGnawed 53 = .ok (.iload 5, 2) := dk_21 5 (dk_at dksX1_isGnawed_2 6 rfl rfl)
theorem dX1_isGnawed_55 : decode cX1_isGnawed 55 = .ok (.sipush 500, 3) := dk_17 1 244 (dk_at dksX1_isGnawed_2 8 rfl rfl)
theorem dX1_isGnawed_58 : decode cX1_isGnawed 58 = .ok (.if_icmp .lt 28, 3) := dk_161 0 28 (dk_at dksX1_isGnawed_2 11 rfl rfl)
theorem dX1_isGnawed_61 : decode cX1_isGnawed 61 = .ok (.goto 15, 3) := dk_167 0 15 (dk_at dksX1_isGnawed_2 14 rfl rfl)
theorem dX1_isGnawed_64 : decode cX1_isGnawed 64 = .ok (.aload_n 0, 1) := dk_42 (dk_at dksX1_isGnawed_2 17 rfl rfl)
theorem dX1_isGnawed_65 : decode cX1_isGnawed 65 = .ok (.sipush 1000, 3) := dk_17 3 232 (dk_at dksX1_isGnawed_2 18 rfl rfl)
theorem dX1_isGnawed_68 : decode cX1_isGnawed 68 = .ok (.invokevirtual 227, 3) := dk_182 0 227 (dk_at dksX1_isGnawed_2 21 rfl rfl)
theorem dX1_isGnawed_71 : decode cX1_isGnawed 71 = .ok (.iload 5, 2) := dk_21 5 (dk_at dksX1_isGnawed_3 0 rfl rfl)
theorem dX1_isGnawed_73 : decode cX1_isGnawed 73 = .ok (.if_icmp .ge 13, 3) := dk_162 0 13 (dk_at dksX1_isGnawed_3 2 rfl rfl)
theorem dX1_isGnawed_76 : decode cX1_isGnawed 76 = .ok (.iload_n 3, 1) := dk_29 (dk_at dksX1_isGnawed_3 5 rfl rfl)
theorem dX1_isGnawed_77 : decode cX1_isGnawed 77 = .ok (.aload_n 2, 1) := dk_44 (dk_at dksX1_isGnawed_3 6 rfl rfl)
theorem dX1_isGnawed_78 : decode cX1_isGnawed 78 = .ok (.iload 4, 2) := dk_21 4 (dk_at dksX1_isGnawed_3 7 rfl rfl)
theorem dX1_isGnawed_80 : decode cX1_isGnawed 80 = .ok (.iconst 1, 1) := dk_4 (dk_at dksX1_isGnawed_3 9 rfl rfl)
theorem dX1_isGnawed_81 : decode cX1_isGnawed 81 = .ok (.invokevirtual 209, 3) := dk_182 0 209 (dk_at dksX1_isGnawed_3 10 rfl rfl)
theorem dX1_isGnawed_84 : decode cX1_isGnawed 84 = .ok (.iadd, 1) := dk_96 (dk_at dksX1_isGnawed_3 13 rfl rfl)
theorem dX1_isGnawed_85 : decode cX1_isGnawed 85 = .ok (.istore_n 3, 1) := dk_62 (dk_at dksX1_isGnawed_3 14 rfl rfl)
theorem dX1_isGnawed_86 : decode cX1_isGnawed 86 = .ok (.iinc 4 1, 3) := dk_132 4 1 (dk_at dksX1_isGnawed_3 15 rfl rfl)
theorem dX1_isGnawed_89 : decode cX1_isGnawed 89 = .ok (.goto (-77), 3) := dk_167 255 179 (dk_at dksX1_isGnawed_3 18 rfl rfl)
theorem dX1_isGnawed_92 : decode cX1_isGnawed 92 = .ok (.aload_n 0, 1) := dk_42 (dk_at dksX1_isGnawed_3 21 rfl rfl)
theorem dX1_isGnawed_93 : decode cX1_isGnawed 93 = .ok (.dup, 1) := dk_89 (dk_at dksX1_isGnawed_3 22 rfl rfl)
theorem dX1_isGnawed_94 : decode cX1_isGnawed 94 = .ok (.getfield 84, 3) := dk_180 0 84 (dk_at dksX1_isGnawed_4 0 rfl rfl)
theorem dX1_isGnawed_97 : decode cX1_isGnawed 97 = .ok (.iload_n 3, 1) := dk_29 (dk_at dksX1_isGnawed_4 3 rfl rfl)
theorem dX1_isGnawed_98 : decode cX1_isGnawed 98 = .ok (.iadd, 1) := dk_96 (dk_at dksX1_isGnawed_4 4 rfl rfl)
theorem dX1_isGnawed_99 : decode cX1_isGnawed 99 = .ok (.putfield 84, 3) := dk_181 0 84 (dk_at dksX1_isGnawed_4 5 rfl rfl)
theorem dX1_isGnawed_102 : decode cX1_isGnawed 102 = .ok (.aload_n 0, 1) := dk_42 (dk_at dksX1_isGnawed_4 8 rfl rfl)
theorem dX1_isGnawed_103 : decode cX1_isGnawed 103 = .ok (.iconst 2, 1) := dk_5 (dk_at dksX1_isGnawed_4 9 rfl rfl)
theorem dX1_isGnawed_104 : decode cX1_isGnawed 104 = .ok (.iload_n 1, 1) := dk_27 (dk_at dksX1_isGnawed_4 10 rfl rfl)
theorem dX1_isGnawed_105 : decode cX1_isGnawed 105 = .ok (.iload_n 3, 1) := dk_29 (dk_at dksX1_isGnawed_4 11 rfl rfl)
theorem dX1_isGnawed_106 : decode cX1_isGnawed 106 = .ok (.invokevirtual 220, 3) := dk_182 0 220 (dk_at dksX1_isGnawed_4 12 rfl rfl)
theorem dX1_isGnawed_109 : decode cX1_isGnawed 109 = .ok (.return_, 1) := dk_177 (dk_at dksX1_isGnawed_4 15 rfl rfl)
abbrev cX1_gnaws : ByteArray := prog_4_method_12_code
def yX1_gnaws : MethodName := ⟨RX1, "gnaws", "(LGingerRents$House;I)I"⟩
def dkwX1_gnaws_0 : List UInt8 := [42, 16, 8, 43, 28, 17, 1, 44, 16, 30, 43, 180, 0, 146, 104, 100, 17, 3, 232, 182, 0, 193, 172]
abbrev dktX1_gnaws_0 : List UInt8 := dkwX1_gnaws_0 ++ []
theorem dksX1_gnaws_0 : cX1_gnaws.data.toList.drop 0 = dktX1_gnaws_0 := by decide +kernel
theorem dX1_gnaws_0 : decode cX1_gnaws 0 = .ok (.aload_n 0, 1) := dk_42 (dk_at dksX1_gnaws_0 0 rfl rfl)
theorem dX1_gnaws_1 : decode cX1_gnaws 1 = .ok (.bipush 8, 2) := dk_16 8 (dk_at dksX1_gnaws_0 1 rfl rfl)
theorem dX1_gnaws_3 : decode cX1_gnaws 3 = .ok (.aload_n 1, 1) := dk_43 (dk_at dksX1_gnaws_0 3 rfl rfl)
theorem dX1_gnaws_4 : decode cX1_gnaws 4 = .ok (.iload_n 2, 1) := dk_28 (dk_at dksX1_gnaws_0 4 rfl rfl)
theorem dX1_gnaws_5 : decode cX1_gnaws 5 = .ok (.sipush 300, 3) := dk_17 1 44 (dk_at dksX1_gnaws_0 5 rfl rfl)
theorem dX1_gnaws_8 : decode cX1_gnaws 8 = .ok (.bipush 30, 2) := dk_16 30 (dk_at dksX1_gnaws_0 8 rfl rfl)
theorem dX1_gnaws_10 : decode cX1_gnaws 10 = .ok (.aload_n 1, 1) := dk_43 (dk_at dksX1_gnaws_0 10 rfl rfl)
theorem dX1_gnaws_11 : decode cX1_gnaws 11 = .ok (.getfield 146, 3) := dk_180 0 146 (dk_at dksX1_gnaws_0 11 rfl rfl)
theorem dX1_gnaws_14 : decode cX1_gnaws 14 = .ok (.imul, 1) := dk_104 (dk_at dksX1_gnaws_0 14 rfl rfl)
theorem dX1_gnaws_15 : decode cX1_gnaws 15 = .ok (.isub, 1) := dk_100 (dk_at dksX1_gnaws_0 15 rfl rfl)
theorem dX1_gnaws_16 : decode cX1_gnaws 16 = .ok (.sipush 1000, 3) := dk_17 3 232 (dk_at dksX1_gnaws_0 16 rfl rfl)
theorem dX1_gnaws_19 : decode cX1_gnaws 19 = .ok (.invokevirtual 193, 3) := dk_182 0 193 (dk_at dksX1_gnaws_0 19 rfl rfl)
theorem dX1_gnaws_22 : decode cX1_gnaws 22 = .ok (.ireturn, 1) := dk_172 (dk_at dksX1_gnaws_0 22 rfl rfl)
abbrev cX1_draw : ByteArray := prog_4_method_5_code
def yX1_draw : MethodName := ⟨RX1, "draw", "(I)I"⟩
def dkwX1_draw_0 : List UInt8 := [42, 18, 112, 42, 180, 0, 90, 104, 18, 113, 96, 181, 0, 90, 42, 180, 0, 90, 16, 8, 124, 27, 112, 172]
abbrev dktX1_draw_0 : List UInt8 := dkwX1_draw_0 ++ []
theorem dksX1_draw_0 : cX1_draw.data.toList.drop 0 = dktX1_draw_0 := by decide +kernel
theorem dX1_draw_0 : decode cX1_draw 0 = .ok (.aload_n 0, 1) := dk_42 (dk_at dksX1_draw_0 0 rfl rfl)
theorem dX1_draw_1 : decode cX1_draw 1 = .ok (.ldc 112, 2) := dk_18 112 (dk_at dksX1_draw_0 1 rfl rfl)
theorem dX1_draw_3 : decode cX1_draw 3 = .ok (.aload_n 0, 1) := dk_42 (dk_at dksX1_draw_0 3 rfl rfl)
theorem dX1_draw_4 : decode cX1_draw 4 = .ok (.getfield 90, 3) := dk_180 0 90 (dk_at dksX1_draw_0 4 rfl rfl)
theorem dX1_draw_7 : decode cX1_draw 7 = .ok (.imul, 1) := dk_104 (dk_at dksX1_draw_0 7 rfl rfl)
theorem dX1_draw_8 : decode cX1_draw 8 = .ok (.ldc 113, 2) := dk_18 113 (dk_at dksX1_draw_0 8 rfl rfl)
theorem dX1_draw_10 : decode cX1_draw 10 = .ok (.iadd, 1) := dk_96 (dk_at dksX1_draw_0 10 rfl rfl)
theorem dX1_draw_11 : decode cX1_draw 11 = .ok (.putfield 90, 3) := dk_181 0 90 (dk_at dksX1_draw_0 11 rfl rfl)
theorem dX1_draw_14 : decode cX1_draw 14 = .ok (.aload_n 0, 1) := dk_42 (dk_at dksX1_draw_0 14 rfl rfl)
theorem dX1_draw_15 : decode cX1_draw 15 = .ok (.getfield 90, 3) := dk_180 0 90 (dk_at dksX1_draw_0 15 rfl rfl)
theorem dX1_draw_18 : decode cX1_draw 18 = .ok (.bipush 8, 2) := dk_16 8 (dk_at dksX1_draw_0 18 rfl rfl)
theorem dX1_draw_20 : decode cX1_draw 20 = .ok (.iushr, 1) := dk_124 (dk_at dksX1_draw_0 20 rfl rfl)
theorem dX1_draw_21 : decode cX1_draw 21 = .ok (.iload_n 1, 1) := dk_27 (dk_at dksX1_draw_0 21 rfl rfl)
theorem dX1_draw_22 : decode cX1_draw 22 = .ok (.irem, 1) := dk_112 (dk_at dksX1_draw_0 22 rfl rfl)
theorem dX1_draw_23 : decode cX1_draw 23 = .ok (.ireturn, 1) := dk_172 (dk_at dksX1_draw_0 23 rfl rfl)
abbrev cX1_isMelting : ByteArray := prog_4_method_22_code
def yX1_isMelting : MethodName := ⟨RX1, "isMelting", "(I)V"⟩
def dkwX1_isMelting_4 : List UInt8 := [184, 0, 233, 181, 0, 146, 177]
abbrev dktX1_isMelting_4 : List UInt8 := dkwX1_isMelting_4 ++ []
def dkwX1_isMelting_3 : List UInt8 := [180, 0, 78, 4, 160, 0, 25, 44, 182, 0, 122, 153, 0, 18, 44, 16, 9, 44, 180, 0, 146, 4, 96]
abbrev dktX1_isMelting_3 : List UInt8 := dkwX1_isMelting_3 ++ dktX1_isMelting_4
def dkwX1_isMelting_2 : List UInt8 := [21, 4, 182, 0, 230, 182, 0, 209, 96, 62, 132, 4, 1, 167, 255, 210, 42, 6, 27, 29, 182, 0, 220, 42]
abbrev dktX1_isMelting_2 : List UInt8 := dkwX1_isMelting_2 ++ dktX1_isMelting_3
def dkwX1_isMelting_1 : List UInt8 := [154, 0, 39, 29, 44, 180, 0, 130, 21, 4, 46, 154, 0, 7, 3, 167, 0, 16, 44, 21, 4, 42, 44]
abbrev dktX1_isMelting_1 : List UInt8 := dkwX1_isMelting_1 ++ dktX1_isMelting_2
def dkwX1_isMelting_0 : List UInt8 := [42, 180, 0, 11, 27, 50, 77, 3, 62, 3, 54, 4, 21, 4, 7, 162, 0, 46, 42, 180, 0, 78]
abbrev dktX1_isMelting_0 : List UInt8 := dkwX1_isMelting_0 ++ dktX1_isMelting_1
theorem dksX1_isMelting_0 : cX1_isMelting.data.toList.drop 0 = dktX1_isMelting_0 := by decide +kernel
theorem dksX1_isMelting_1 : cX1_isMelting.data.toList.drop 22 = dktX1_isMelting_1 := dk_seg dksX1_isMelting_0 22 rfl rfl
theorem dksX1_isMelting_2 : cX1_isMelting.data.toList.drop 45 = dktX1_isMelting_2 := dk_seg dksX1_isMelting_1 23 rfl rfl
theorem dksX1_isMelting_3 : cX1_isMelting.data.toList.drop 69 = dktX1_isMelting_3 := dk_seg dksX1_isMelting_2 24 rfl rfl
theorem dksX1_isMelting_4 : cX1_isMelting.data.toList.drop 92 = dktX1_isMelting_4 := dk_seg dksX1_isMelting_3 23 rfl rfl
theorem dX1_isMelting_0 : decode cX1_isMelting 0 = .ok (.aload_n 0, 1) := dk_42 (dk_at dksX1_isMelting_0 0 rfl rfl)
theorem dX1_isMelting_1 : decode cX1_isMelting 1 = .ok (.getfield 11, 3) := dk_180 0 11 (dk_at dksX1_isMelting_0 1 rfl rfl)
theorem dX1_isMelting_4 : decode cX1_isMelting 4 = .ok (.iload_n 1, 1) := dk_27 (dk_at dksX1_isMelting_0 4 rfl rfl)
theorem dX1_isMelting_5 : decode cX1_isMelting 5 = .ok (.aaload, 1) := dk_50 (dk_at dksX1_isMelting_0 5 rfl rfl)
theorem dX1_isMelting_6 : decode cX1_isMelting 6 = .ok (.astore_n 2, 1) := dk_77 (dk_at dksX1_isMelting_0 6 rfl rfl)
theorem dX1_isMelting_7 : decode cX1_isMelting 7 = .ok (.iconst 0, 1) := dk_3 (dk_at dksX1_isMelting_0 7 rfl rfl)
theorem dX1_isMelting_8 : decode cX1_isMelting 8 = .ok (.istore_n 3, 1) := dk_62 (dk_at dksX1_isMelting_0 8 rfl rfl)
theorem dX1_isMelting_9 : decode cX1_isMelting 9 = .ok (.iconst 0, 1) := dk_3 (dk_at dksX1_isMelting_0 9 rfl rfl)
theorem dX1_isMelting_10 : decode cX1_isMelting 10 = .ok (.istore 4, 2) := dk_54 4 (dk_at dksX1_isMelting_0 10 rfl rfl)
theorem dX1_isMelting_12 : decode cX1_isMelting 12 = .ok (.iload 4, 2) := dk_21 4 (dk_at dksX1_isMelting_0 12 rfl rfl)
theorem dX1_isMelting_14 : decode cX1_isMelting 14 = .ok (.iconst 4, 1) := dk_7 (dk_at dksX1_isMelting_0 14 rfl rfl)
theorem dX1_isMelting_15 : decode cX1_isMelting 15 = .ok (.if_icmp .ge 46, 3) := dk_162 0 46 (dk_at dksX1_isMelting_0 15 rfl rfl)
theorem dX1_isMelting_18 : decode cX1_isMelting 18 = .ok (.aload_n 0, 1) := dk_42 (dk_at dksX1_isMelting_0 18 rfl rfl)
theorem dX1_isMelting_19 : decode cX1_isMelting 19 = .ok (.getfield 78, 3) := dk_180 0 78 (dk_at dksX1_isMelting_0 19 rfl rfl)
theorem dX1_isMelting_22 : decode cX1_isMelting 22 = .ok (.ifCond .ne 39, 3) := dk_154 0 39 (dk_at dksX1_isMelting_1 0 rfl rfl)
theorem dX1_isMelting_25 : decode cX1_isMelting 25 = .ok (.iload_n 3, 1) := dk_29 (dk_at dksX1_isMelting_1 3 rfl rfl)
theorem dX1_isMelting_26 : decode cX1_isMelting 26 = .ok (.aload_n 2, 1) := dk_44 (dk_at dksX1_isMelting_1 4 rfl rfl)
theorem dX1_isMelting_27 : decode cX1_isMelting 27 = .ok (.getfield 130, 3) := dk_180 0 130 (dk_at dksX1_isMelting_1 5 rfl rfl)
theorem dX1_isMelting_30 : decode cX1_isMelting 30 = .ok (.iload 4, 2) := dk_21 4 (dk_at dksX1_isMelting_1 8 rfl rfl)
theorem dX1_isMelting_32 : decode cX1_isMelting 32 = .ok (.iaload, 1) := dk_46 (dk_at dksX1_isMelting_1 10 rfl rfl)
theorem dX1_isMelting_33 : decode cX1_isMelting 33 = .ok (.ifCond .ne 7, 3) := dk_154 0 7 (dk_at dksX1_isMelting_1 11 rfl rfl)
theorem dX1_isMelting_36 : decode cX1_isMelting 36 = .ok (.iconst 0, 1) := dk_3 (dk_at dksX1_isMelting_1 14 rfl rfl)
theorem dX1_isMelting_37 : decode cX1_isMelting 37 = .ok (.goto 16, 3) := dk_167 0 16 (dk_at dksX1_isMelting_1 15 rfl rfl)
theorem dX1_isMelting_40 : decode cX1_isMelting 40 = .ok (.aload_n 2, 1) := dk_44 (dk_at dksX1_isMelting_1 18 rfl rfl)
theorem dX1_isMelting_41 : decode cX1_isMelting 41 = .ok (.iload 4, 2) := dk_21 4 (dk_at dksX1_isMelting_1 19 rfl rfl)
theorem dX1_isMelting_43 : decode cX1_isMelting 43 = .ok (.aload_n 0, 1) := dk_42 (dk_at dksX1_isMelting_1 21 rfl rfl)
theorem dX1_isMelting_44 : decode cX1_isMelting 44 = .ok (.aload_n 2, 1) := dk_44 (dk_at dksX1_isMelting_1 22 rfl rfl)
theorem dX1_isMelting_45 : decode cX1_isMelting 45 = .ok (.iload 4, 2) := dk_21 4 (dk_at dksX1_isMelting_2 0 rfl rfl)
theorem dX1_isMelting_47 : decode cX1_isMelting 47 = .ok (.invokevirtual 230, 3) := dk_182 0 230 (dk_at dksX1_isMelting_2 2 rfl rfl)
theorem dX1_isMelting_50 : decode cX1_isMelting 50 = .ok (.invokevirtual 209, 3) := dk_182 0 209 (dk_at dksX1_isMelting_2 5 rfl rfl)
theorem dX1_isMelting_53 : decode cX1_isMelting 53 = .ok (.iadd, 1) := dk_96 (dk_at dksX1_isMelting_2 8 rfl rfl)
theorem dX1_isMelting_54 : decode cX1_isMelting 54 = .ok (.istore_n 3, 1) := dk_62 (dk_at dksX1_isMelting_2 9 rfl rfl)
theorem dX1_isMelting_55 : decode cX1_isMelting 55 = .ok (.iinc 4 1, 3) := dk_132 4 1 (dk_at dksX1_isMelting_2 10 rfl rfl)
theorem dX1_isMelting_58 : decode cX1_isMelting 58 = .ok (.goto (-46), 3) := dk_167 255 210 (dk_at dksX1_isMelting_2 13 rfl rfl)
theorem dX1_isMelting_61 : decode cX1_isMelting 61 = .ok (.aload_n 0, 1) := dk_42 (dk_at dksX1_isMelting_2 16 rfl rfl)
theorem dX1_isMelting_62 : decode cX1_isMelting 62 = .ok (.iconst 3, 1) := dk_6 (dk_at dksX1_isMelting_2 17 rfl rfl)
theorem dX1_isMelting_63 : decode cX1_isMelting 63 = .ok (.iload_n 1, 1) := dk_27 (dk_at dksX1_isMelting_2 18 rfl rfl)
theorem dX1_isMelting_64 : decode cX1_isMelting 64 = .ok (.iload_n 3, 1) := dk_29 (dk_at dksX1_isMelting_2 19 rfl rfl)
theorem dX1_isMelting_65 : decode cX1_isMelting 65 = .ok (.invokevirtual 220, 3) := dk_182 0 220 (dk_at dksX1_isMelting_2 20 rfl rfl)
theorem dX1_isMelting_68 : decode cX1_isMelting 68 = .ok (.aload_n 0, 1) := dk_42 (dk_at dksX1_isMelting_2 23 rfl rfl)
theorem dX1_isMelting_69 : decode cX1_isMelting 69 = .ok (.getfield 78, 3) := dk_180 0 78 (dk_at dksX1_isMelting_3 0 rfl rfl)
theorem dX1_isMelting_72 : decode cX1_isMelting 72 = .ok (.iconst 1, 1) := dk_4 (dk_at dksX1_isMelting_3 3 rfl rfl)
theorem dX1_isMelting_73 : decode cX1_isMelting 73 = .ok (.if_icmp .ne 25, 3) := dk_160 0 25 (dk_at dksX1_isMelting_3 4 rfl rfl)
theorem dX1_isMelting_76 : decode cX1_isMelting 76 = .ok (.aload_n 2, 1) := dk_44 (dk_at dksX1_isMelting_3 7 rfl rfl)
theorem dX1_isMelting_77 : decode cX1_isMelting 77 = .ok (.invokevirtual 122, 3) := dk_182 0 122 (dk_at dksX1_isMelting_3 8 rfl rfl)
theorem dX1_isMelting_80 : decode cX1_isMelting 80 = .ok (.ifCond .eq 18, 3) := dk_153 0 18 (dk_at dksX1_isMelting_3 11 rfl rfl)
theorem dX1_isMelting_83 : decode cX1_isMelting 83 = .ok (.aload_n 2, 1) := dk_44 (dk_at dksX1_isMelting_3 14 rfl rfl)
theorem dX1_isMelting_84 : decode cX1_isMelting 84 = .ok (.bipush 9, 2) := dk_16 9 (dk_at dksX1_isMelting_3 15 rfl rfl)
theorem dX1_isMelting_86 : decode cX1_isMelting 86 = .ok (.aload_n 2, 1) := dk_44 (dk_at dksX1_isMelting_3 17 rfl rfl)
theorem dX1_isMelting_87 : decode cX1_isMelting 87 = .ok (.getfield 146, 3) := dk_180 0 146 (dk_at dksX1_isMelting_3 18 rfl rfl)
theorem dX1_isMelting_90 : decode cX1_isMelting 90 = .ok (.iconst 1, 1) := dk_4 (dk_at dksX1_isMelting_3 21 rfl rfl)
theorem dX1_isMelting_91 : decode cX1_isMelting 91 = .ok (.iadd, 1) := dk_96 (dk_at dksX1_isMelting_3 22 rfl rfl)
theorem dX1_isMelting_92 : decode cX1_isMelting 92 = .ok (.invokestatic 233, 3) := dk_184 0 233 (dk_at dksX1_isMelting_4 0 rfl rfl)
theorem dX1_isMelting_95 : decode cX1_isMelting 95 = .ok (.putfield 146, 3) := dk_181 0 146 (dk_at dksX1_isMelting_4 3 rfl rfl)
theorem dX1_isMelting_98 : decode cX1_isMelting 98 = .ok (.return_, 1) := dk_177 (dk_at dksX1_isMelting_4 6 rfl rfl)
abbrev cX1_melts : ByteArray := prog_4_method_13_code
def yX1_melts : MethodName := ⟨RX1, "melts", "(LGingerRents$House;I)I"⟩
def dkwX1_melts_0 : List UInt8 := [42, 16, 9, 43, 28, 42, 180, 0, 74, 43, 180, 0, 146, 100, 16, 99, 182, 0, 193, 172]
abbrev dktX1_melts_0 : List UInt8 := dkwX1_melts_0 ++ []
theorem dksX1_melts_0 : cX1_melts.data.toList.drop 0 = dktX1_melts_0 := by decide +kernel
theorem dX1_melts_0 : decode cX1_melts 0 = .ok (.aload_n 0, 1) := dk_42 (dk_at dksX1_melts_0 0 rfl rfl)
theorem dX1_melts_1 : decode cX1_melts 1 = .ok (.bipush 9, 2) := dk_16 9 (dk_at dksX1_melts_0 1 rfl rfl)
theorem dX1_melts_3 : decode cX1_melts 3 = .ok (.aload_n 1, 1) := dk_43 (dk_at dksX1_melts_0 3 rfl rfl)
theorem dX1_melts_4 : decode cX1_melts 4 = .ok (.iload_n 2, 1) := dk_28 (dk_at dksX1_melts_0 4 rfl rfl)
theorem dX1_melts_5 : decode cX1_melts 5 = .ok (.aload_n 0, 1) := dk_42 (dk_at dksX1_melts_0 5 rfl rfl)
theorem dX1_melts_6 : decode cX1_melts 6 = .ok (.getfield 74, 3) := dk_180 0 74 (dk_at dksX1_melts_0 6 rfl rfl)
theorem dX1_melts_9 : decode cX1_melts 9 = .ok (.aload_n 1, 1) := dk_43 (dk_at dksX1_melts_0 9 rfl rfl)
theorem dX1_melts_10 : decode cX1_melts 10 = .ok (.getfield 146, 3) := dk_180 0 146 (dk_at dksX1_melts_0 10 rfl rfl)
theorem dX1_melts_13 : decode cX1_melts 13 = .ok (.isub, 1) := dk_100 (dk_at dksX1_melts_0 13 rfl rfl)
theorem dX1_melts_14 : decode cX1_melts 14 = .ok (.bipush 99, 2) := dk_16 99 (dk_at dksX1_melts_0 14 rfl rfl)
theorem dX1_melts_16 : decode cX1_melts 16 = .ok (.invokevirtual 193, 3) := dk_182 0 193 (dk_at dksX1_melts_0 16 rfl rfl)
theorem dX1_melts_19 : decode cX1_melts 19 = .ok (.ireturn, 1) := dk_172 (dk_at dksX1_melts_0 19 rfl rfl)
abbrev cX1_thinks : ByteArray := prog_4_method_3_code
def yX1_thinks : MethodName := ⟨RX1, "thinks", "(LGingerRents$Borough;)V"⟩
def dkwX1_thinks_2 : List UInt8 := [180, 0, 103, 181, 0, 103, 177]
abbrev dktX1_thinks_2 : List UInt8 := dkwX1_thinks_2 ++ []
def dkwX1_thinks_1 : List UInt8 := [180, 0, 59, 181, 0, 59, 42, 43, 180, 0, 62, 181, 0, 62, 42, 43, 180, 0, 65, 181, 0, 65, 42, 43]
abbrev dktX1_thinks_1 : List UInt8 := dkwX1_thinks_1 ++ dktX1_thinks_2
def dkwX1_thinks_0 : List UInt8 := [42, 43, 182, 0, 96, 42, 43, 180, 0, 100, 181, 0, 100, 42, 43, 180, 0, 55, 181, 0, 55, 42, 43]
abbrev dktX1_thinks_0 : List UInt8 := dkwX1_thinks_0 ++ dktX1_thinks_1
theorem dksX1_thinks_0 : cX1_thinks.data.toList.drop 0 = dktX1_thinks_0 := by decide +kernel
theorem dksX1_thinks_1 : cX1_thinks.data.toList.drop 23 = dktX1_thinks_1 := dk_seg dksX1_thinks_0 23 rfl rfl
theorem dksX1_thinks_2 : cX1_thinks.data.toList.drop 47 = dktX1_thinks_2 := dk_seg dksX1_thinks_1 24 rfl rfl
theorem dX1_thinks_0 : decode cX1_thinks 0 = .ok (.aload_n 0, 1) := dk_42 (dk_at dksX1_thinks_0 0 rfl rfl)
theorem dX1_thinks_1 : decode cX1_thinks 1 = .ok (.aload_n 1, 1) := dk_43 (dk_at dksX1_thinks_0 1 rfl rfl)
theorem dX1_thinks_2 : decode cX1_thinks 2 = .ok (.invokevirtual 96, 3) := dk_182 0 96 (dk_at dksX1_thinks_0 2 rfl rfl)
theorem dX1_thinks_5 : decode cX1_thinks 5 = .ok (.aload_n 0, 1) := dk_42 (dk_at dksX1_thinks_0 5 rfl rfl)
theorem dX1_thinks_6 : decode cX1_thinks 6 = .ok (.aload_n 1, 1) := dk_43 (dk_at dksX1_thinks_0 6 rfl rfl)
theorem dX1_thinks_7 : decode cX1_thinks 7 = .ok (.getfield 100, 3) := dk_180 0 100 (dk_at dksX1_thinks_0 7 rfl rfl)
theorem dX1_thinks_10 : decode cX1_thinks 10 = .ok (.putfield 100, 3) := dk_181 0 100 (dk_at dksX1_thinks_0 10 rfl rfl)
theorem dX1_thinks_13 : decode cX1_thinks 13 = .ok (.aload_n 0, 1) := dk_42 (dk_at dksX1_thinks_0 13 rfl rfl)
theorem dX1_thinks_14 : decode cX1_thinks 14 = .ok (.aload_n 1, 1) := dk_43 (dk_at dksX1_thinks_0 14 rfl rfl)
theorem dX1_thinks_15 : decode cX1_thinks 15 = .ok (.getfield 55, 3) := dk_180 0 55 (dk_at dksX1_thinks_0 15 rfl rfl)
theorem dX1_thinks_18 : decode cX1_thinks 18 = .ok (.putfield 55, 3) := dk_181 0 55 (dk_at dksX1_thinks_0 18 rfl rfl)
theorem dX1_thinks_21 : decode cX1_thinks 21 = .ok (.aload_n 0, 1) := dk_42 (dk_at dksX1_thinks_0 21 rfl rfl)
theorem dX1_thinks_22 : decode cX1_thinks 22 = .ok (.aload_n 1, 1) := dk_43 (dk_at dksX1_thinks_0 22 rfl rfl)
theorem dX1_thinks_23 : decode cX1_thinks 23 = .ok (.getfield 59, 3) := dk_180 0 59 (dk_at dksX1_thinks_1 0 rfl rfl)
theorem dX1_thinks_26 : decode cX1_thinks 26 = .ok (.putfield 59, 3) := dk_181 0 59 (dk_at dksX1_thinks_1 3 rfl rfl)
theorem dX1_thinks_29 : decode cX1_thinks 29 = .ok (.aload_n 0, 1) := dk_42 (dk_at dksX1_thinks_1 6 rfl rfl)
theorem dX1_thinks_30 : decode cX1_thinks 30 = .ok (.aload_n 1, 1) := dk_43 (dk_at dksX1_thinks_1 7 rfl rfl)
theorem dX1_thinks_31 : decode cX1_thinks 31 = .ok (.getfield 62, 3) := dk_180 0 62 (dk_at dksX1_thinks_1 8 rfl rfl)
theorem dX1_thinks_34 : decode cX1_thinks 34 = .ok (.putfield 62, 3) := dk_181 0 62 (dk_at dksX1_thinks_1 11 rfl rfl)
theorem dX1_thinks_37 : decode cX1_thinks 37 = .ok (.aload_n 0, 1) := dk_42 (dk_at dksX1_thinks_1 14 rfl rfl)
theorem dX1_thinks_38 : decode cX1_thinks 38 = .ok (.aload_n 1, 1) := dk_43 (dk_at dksX1_thinks_1 15 rfl rfl)
theorem dX1_thinks_39 : decode cX1_thinks 39 = .ok (.getfield 65, 3) := dk_180 0 65 (dk_at dksX1_thinks_1 16 rfl rfl)
theorem dX1_thinks_42 : decode cX1_thinks 42 = .ok (.putfield 65, 3) := dk_181 0 65 (dk_at dksX1_thinks_1 19 rfl rfl)
theorem dX1_thinks_45 : decode cX1_thinks 45 = .ok (.aload_n 0, 1) := dk_42 (dk_at dksX1_thinks_1 22 rfl rfl)
theorem dX1_thinks_46 : decode cX1_thinks 46 = .ok (.aload_n 1, 1) := dk_43 (dk_at dksX1_thinks_1 23 rfl rfl)
theorem dX1_thinks_47 : decode cX1_thinks 47 = .ok (.getfield 103, 3) := dk_180 0 103 (dk_at dksX1_thinks_2 0 rfl rfl)
theorem dX1_thinks_50 : decode cX1_thinks 50 = .ok (.putfield 103, 3) := dk_181 0 103 (dk_at dksX1_thinks_2 3 rfl rfl)
theorem dX1_thinks_53 : decode cX1_thinks 53 = .ok (.return_, 1) := dk_177 (dk_at dksX1_thinks_2 6 rfl rfl)
abbrev cX1_takes : ByteArray := prog_4_method_4_code
def yX1_takes : MethodName := ⟨RX1, "takes", "(LGingerRents$Borough;)V"⟩
def dkwX1_takes_6 : List UInt8 := [182, 0, 109, 177]
abbrev dktX1_takes_6 : List UInt8 := dkwX1_takes_6 ++ []
def dkwX1_takes_5 : List UInt8 := [182, 0, 109, 42, 180, 0, 46, 43, 180, 0, 46, 182, 0, 109, 42, 180, 0, 49, 43, 180, 0, 49]
abbrev dktX1_takes_5 : List UInt8 := dkwX1_takes_5 ++ dktX1_takes_6
def dkwX1_takes_4 : List UInt8 := [182, 0, 109, 42, 180, 0, 40, 43, 180, 0, 40, 182, 0, 109, 42, 180, 0, 43, 43, 180, 0, 43]
abbrev dktX1_takes_4 : List UInt8 := dkwX1_takes_4 ++ dktX1_takes_5
def dkwX1_takes_3 : List UInt8 := [182, 0, 109, 42, 180, 0, 34, 43, 180, 0, 34, 182, 0, 109, 42, 180, 0, 37, 43, 180, 0, 37]
abbrev dktX1_takes_3 : List UInt8 := dkwX1_takes_3 ++ dktX1_takes_4
def dkwX1_takes_2 : List UInt8 := [167, 255, 216, 42, 180, 0, 27, 43, 180, 0, 27, 182, 0, 109, 42, 180, 0, 31, 43, 180, 0, 31]
abbrev dktX1_takes_2 : List UInt8 := dkwX1_takes_2 ++ dktX1_takes_3
def dkwX1_takes_1 : List UInt8 := [180, 0, 19, 28, 50, 29, 43, 180, 0, 19, 28, 50, 29, 46, 79, 132, 3, 1, 167, 255, 232, 132, 2, 1]
abbrev dktX1_takes_1 : List UInt8 := dkwX1_takes_1 ++ dktX1_takes_2
def dkwX1_takes_0 : List UInt8 := [42, 43, 182, 0, 106, 3, 61, 28, 42, 180, 0, 93, 162, 0, 38, 3, 62, 29, 7, 162, 0, 25, 42]
abbrev dktX1_takes_0 : List UInt8 := dkwX1_takes_0 ++ dktX1_takes_1
theorem dksX1_takes_0 : cX1_takes.data.toList.drop 0 = dktX1_takes_0 := by decide +kernel
theorem dksX1_takes_1 : cX1_takes.data.toList.drop 23 = dktX1_takes_1 := dk_seg dksX1_takes_0 23 rfl rfl
theorem dksX1_takes_2 : cX1_takes.data.toList.drop 47 = dktX1_takes_2 := dk_seg dksX1_takes_1 24 rfl rfl
theorem dksX1_takes_3 : cX1_takes.data.toList.drop 69 = dktX1_takes_3 := dk_seg dksX1_takes_2 22 rfl rfl
theorem dksX1_takes_4 : cX1_takes.data.toList.drop 91 = dktX1_takes_4 := dk_seg dksX1_takes_3 22 rfl rfl
theorem dksX1_takes_5 : cX1_takes.data.toList.drop 113 = dktX1_takes_5 := dk_seg dksX1_takes_4 22 rfl rfl
theorem dksX1_takes_6 : cX1_takes.data.toList.drop 135 = dktX1_takes_6 := dk_seg dksX1_takes_5 22 rfl rfl
theorem dX1_takes_0 : decode cX1_takes 0 = .ok (.aload_n 0, 1) := dk_42 (dk_at dksX1_takes_0 0 rfl rfl)
theorem dX1_takes_1 : decode cX1_takes 1 = .ok (.aload_n 1, 1) := dk_43 (dk_at dksX1_takes_0 1 rfl rfl)
theorem dX1_takes_2 : decode cX1_takes 2 = .ok (.invokevirtual 106, 3) := dk_182 0 106 (dk_at dksX1_takes_0 2 rfl rfl)
theorem dX1_takes_5 : decode cX1_takes 5 = .ok (.iconst 0, 1) := dk_3 (dk_at dksX1_takes_0 5 rfl rfl)
theorem dX1_takes_6 : decode cX1_takes 6 = .ok (.istore_n 2, 1) := dk_61 (dk_at dksX1_takes_0 6 rfl rfl)
theorem dX1_takes_7 : decode cX1_takes 7 = .ok (.iload_n 2, 1) := dk_28 (dk_at dksX1_takes_0 7 rfl rfl)
theorem dX1_takes_8 : decode cX1_takes 8 = .ok (.aload_n 0, 1) := dk_42 (dk_at dksX1_takes_0 8 rfl rfl)
theorem dX1_takes_9 : decode cX1_takes 9 = .ok (.getfield 93, 3) := dk_180 0 93 (dk_at dksX1_takes_0 9 rfl rfl)
theorem dX1_takes_12 : decode cX1_takes 12 = .ok (.if_icmp .ge 38, 3) := dk_162 0 38 (dk_at dksX1_takes_0 12 rfl rfl)
theorem dX1_takes_15 : decode cX1_takes 15 = .ok (.iconst 0, 1) := dk_3 (dk_at dksX1_takes_0 15 rfl rfl)
theorem dX1_takes_16 : decode cX1_takes 16 = .ok (.istore_n 3, 1) := dk_62 (dk_at dksX1_takes_0 16 rfl rfl)
theorem dX1_takes_17 : decode cX1_takes 17 = .ok (.iload_n 3, 1) := dk_29 (dk_at dksX1_takes_0 17 rfl rfl)
theorem dX1_takes_18 : decode cX1_takes 18 = .ok (.iconst 4, 1) := dk_7 (dk_at dksX1_takes_0 18 rfl rfl)
theorem dX1_takes_19 : decode cX1_takes 19 = .ok (.if_icmp .ge 25, 3) := dk_162 0 25 (dk_at dksX1_takes_0 19 rfl rfl)
theorem dX1_takes_22 : decode cX1_takes 22 = .ok (.aload_n 0, 1) := dk_42 (dk_at dksX1_takes_0 22 rfl rfl)
theorem dX1_takes_23 : decode cX1_takes 23 = .ok (.getfield 19, 3) := dk_180 0 19 (dk_at dksX1_takes_1 0 rfl rfl)
theorem dX1_takes_26 : decode cX1_takes 26 = .ok (.iload_n 2, 1) := dk_28 (dk_at dksX1_takes_1 3 rfl rfl)
theorem dX1_takes_27 : decode cX1_takes 27 = .ok (.aaload, 1) := dk_50 (dk_at dksX1_takes_1 4 rfl rfl)
theorem dX1_takes_28 : decode cX1_takes 28 = .ok (.iload_n 3, 1) := dk_29 (dk_at dksX1_takes_1 5 rfl rfl)
theorem dX1_takes_29 : decode cX1_takes 29 = .ok (.aload_n 1, 1) := dk_43 (dk_at dksX1_takes_1 6 rfl rfl)
theorem dX1_takes_30 : decode cX1_takes 30 = .ok (.getfield 19, 3) := dk_180 0 19 (dk_at dksX1_takes_1 7 rfl rfl)
theorem dX1_takes_33 : decode cX1_takes 33 = .ok (.iload_n 2, 1) := dk_28 (dk_at dksX1_takes_1 10 rfl rfl)
theorem dX1_takes_34 : decode cX1_takes 34 = .ok (.aaload, 1) := dk_50 (dk_at dksX1_takes_1 11 rfl rfl)
theorem dX1_takes_35 : decode cX1_takes 35 = .ok (.iload_n 3, 1) := dk_29 (dk_at dksX1_takes_1 12 rfl rfl)
theorem dX1_takes_36 : decode cX1_takes 36 = .ok (.iaload, 1) := dk_46 (dk_at dksX1_takes_1 13 rfl rfl)
theorem dX1_takes_37 : decode cX1_takes 37 = .ok (.iastore, 1) := dk_79 (dk_at dksX1_takes_1 14 rfl rfl)
theorem dX1_takes_38 : decode cX1_takes 38 = .ok (.iinc 3 1, 3) := dk_132 3 1 (dk_at dksX1_takes_1 15 rfl rfl)
theorem dX1_takes_41 : decode cX1_takes 41 = .ok (.goto (-24), 3) := dk_167 255 232 (dk_at dksX1_takes_1 18 rfl rfl)
theorem dX1_takes_44 : decode cX1_takes 44 = .ok (.iinc 2 1, 3) := dk_132 2 1 (dk_at dksX1_takes_1 21 rfl rfl)
theorem dX1_takes_47 : decode cX1_takes 47 = .ok (.goto (-40), 3) := dk_167 255 216 (dk_at dksX1_takes_2 0 rfl rfl)
theorem dX1_takes_50 : decode cX1_takes 50 = .ok (.aload_n 0, 1) := dk_42 (dk_at dksX1_takes_2 3 rfl rfl)
theorem dX1_takes_51 : decode cX1_takes 51 = .ok (.getfield 27, 3) := dk_180 0 27 (dk_at dksX1_takes_2 4 rfl rfl)
theorem dX1_takes_54 : decode cX1_takes 54 = .ok (.aload_n 1, 1) := dk_43 (dk_at dksX1_takes_2 7 rfl rfl)
theorem dX1_takes_55 : decode cX1_takes 55 = .ok (.getfield 27, 3) := dk_180 0 27 (dk_at dksX1_takes_2 8 rfl rfl)
theorem dX1_takes_58 : decode cX1_takes 58 = .ok (.invokevirtual 109, 3) := dk_182 0 109 (dk_at dksX1_takes_2 11 rfl rfl)
theorem dX1_takes_61 : decode cX1_takes 61 = .ok (.aload_n 0, 1) := dk_42 (dk_at dksX1_takes_2 14 rfl rfl)
theorem dX1_takes_62 : decode cX1_takes 62 = .ok (.getfield 31, 3) := dk_180 0 31 (dk_at dksX1_takes_2 15 rfl rfl)
theorem dX1_takes_65 : decode cX1_takes 65 = .ok (.aload_n 1, 1) := dk_43 (dk_at dksX1_takes_2 18 rfl rfl)
theorem dX1_takes_66 : decode cX1_takes 66 = .ok (.getfield 31, 3) := dk_180 0 31 (dk_at dksX1_takes_2 19 rfl rfl)
theorem dX1_takes_69 : decode cX1_takes 69 = .ok (.invokevirtual 109, 3) := dk_182 0 109 (dk_at dksX1_takes_3 0 rfl rfl)
theorem dX1_takes_72 : decode cX1_takes 72 = .ok (.aload_n 0, 1) := dk_42 (dk_at dksX1_takes_3 3 rfl rfl)
theorem dX1_takes_73 : decode cX1_takes 73 = .ok (.getfield 34, 3) := dk_180 0 34 (dk_at dksX1_takes_3 4 rfl rfl)
theorem dX1_takes_76 : decode cX1_takes 76 = .ok (.aload_n 1, 1) := dk_43 (dk_at dksX1_takes_3 7 rfl rfl)
theorem dX1_takes_77 : decode cX1_takes 77 = .ok (.getfield 34, 3) := dk_180 0 34 (dk_at dksX1_takes_3 8 rfl rfl)
theorem dX1_takes_80 : decode cX1_takes 80 = .ok (.invokevirtual 109, 3) := dk_182 0 109 (dk_at dksX1_takes_3 11 rfl rfl)
theorem dX1_takes_83 : decode cX1_takes 83 = .ok (.aload_n 0, 1) := dk_42 (dk_at dksX1_takes_3 14 rfl rfl)
theorem dX1_takes_84 : decode cX1_takes 84 = .ok (.getfield 37, 3) := dk_180 0 37 (dk_at dksX1_takes_3 15 rfl rfl)
theorem dX1_takes_87 : decode cX1_takes 87 = .ok (.aload_n 1, 1) := dk_43 (dk_at dksX1_takes_3 18 rfl rfl)
theorem dX1_takes_88 : decode cX1_takes 88 = .ok (.getfield 37, 3) := dk_180 0 37 (dk_at dksX1_takes_3 19 rfl rfl)
theorem dX1_takes_91 : decode cX1_takes 91 = .ok (.invokevirtual 109, 3) := dk_182 0 109 (dk_at dksX1_takes_4 0 rfl rfl)
theorem dX1_takes_94 : decode cX1_takes 94 = .ok (.aload_n 0, 1) := dk_42 (dk_at dksX1_takes_4 3 rfl rfl)
theorem dX1_takes_95 : decode cX1_takes 95 = .ok (.getfield 40, 3) := dk_180 0 40 (dk_at dksX1_takes_4 4 rfl rfl)
theorem dX1_takes_98 : decode cX1_takes 98 = .ok (.aload_n 1, 1) := dk_43 (dk_at dksX1_takes_4 7 rfl rfl)
theorem dX1_takes_99 : decode cX1_takes 99 = .ok (.getfield 40, 3) := dk_180 0 40 (dk_at dksX1_takes_4 8 rfl rfl)
theorem dX1_takes_102 : decode cX1_takes 102 = .ok (.invokevirtual 109, 3) := dk_182 0 109 (dk_at dksX1_takes_4 11 rfl rfl)
theorem dX1_takes_105 : decode cX1_takes 105 = .ok (.aload_n 0, 1) := dk_42 (dk_at dksX1_takes_4 14 rfl rfl)
theorem dX1_takes_106 : decode cX1_takes 106 = .ok (.getfield 43, 3) := dk_180 0 43 (dk_at dksX1_takes_4 15 rfl rfl)
theorem dX1_takes_109 : decode cX1_takes 109 = .ok (.aload_n 1, 1) := dk_43 (dk_at dksX1_takes_4 18 rfl rfl)
theorem dX1_takes_110 : decode cX1_takes 110 = .ok (.getfield 43, 3) := dk_180 0 43 (dk_at dksX1_takes_4 19 rfl rfl)
theorem dX1_takes_113 : decode cX1_takes 113 = .ok (.invokevirtual 109, 3) := dk_182 0 109 (dk_at dksX1_takes_5 0 rfl rfl)
theorem dX1_takes_116 : decode cX1_takes 116 = .ok (.aload_n 0, 1) := dk_42 (dk_at dksX1_takes_5 3 rfl rfl)
theorem dX1_takes_117 : decode cX1_takes 117 = .ok (.getfield 46, 3) := dk_180 0 46 (dk_at dksX1_takes_5 4 rfl rfl)
theorem dX1_takes_120 : decode cX1_takes 120 = .ok (.aload_n 1, 1) := dk_43 (dk_at dksX1_takes_5 7 rfl rfl)
theorem dX1_takes_121 : decode cX1_takes 121 = .ok (.getfield 46, 3) := dk_180 0 46 (dk_at dksX1_takes_5 8 rfl rfl)
theorem dX1_takes_124 : decode cX1_takes 124 = .ok (.invokevirtual 109, 3) := dk_182 0 109 (dk_at dksX1_takes_5 11 rfl rfl)
theorem dX1_takes_127 : decode cX1_takes 127 = .ok (.aload_n 0, 1) := dk_42 (dk_at dksX1_takes_5 14 rfl rfl)
theorem dX1_takes_128 : decode cX1_takes 128 = .ok (.getfield 49, 3) := dk_180 0 49 (dk_at dksX1_takes_5 15 rfl rfl)
theorem dX1_takes_131 : decode cX1_takes 131 = .ok (.aload_n 1, 1) := dk_43 (dk_at dksX1_takes_5 18 rfl rfl)
theorem dX1_takes_132 : decode cX1_takes 132 = .ok (.getfield 49, 3) := dk_180 0 49 (dk_at dksX1_takes_5 19 rfl rfl)
theorem dX1_takes_135 : decode cX1_takes 135 = .ok (.invokevirtual 109, 3) := dk_182 0 109 (dk_at dksX1_takes_6 0 rfl rfl)
theorem dX1_takes_138 : decode cX1_takes 138 = .ok (.return_, 1) := dk_177 (dk_at dksX1_takes_6 3 rfl rfl)
theorem q152 : (Jvm.Cond.initialized "GingerRents$Borough") ∈ lw_all := lw_g (lw_at lw_m1 2 rfl) rfl
theorem q195 : (Jvm.Cond.instantiable "GingerRents$Borough" (26 : Nat)) ∈ lw_all := lw_g (lw_at lw_m1 45 rfl) rfl
theorem q197 : (Jvm.Cond.instanceMethod ({ cls := "GingerRents$Borough", name := "<init>", desc := "()V" } : Jvm.MethodName)) ∈ lw_all := lw_g (lw_at lw_m1 47 rfl) rfl
theorem q198 : (Jvm.Cond.code ({ cls := "GingerRents$Borough", name := "<init>", desc := "()V" } : Jvm.MethodName) prog_4_method_1_code (2 : Nat) (Option.none : Option Jvm.ClassFile.FieldType)) ∈ lw_all := lw_g (lw_at lw_m1 48 rfl) rfl
theorem q199 : (Jvm.Cond.methodLink "GingerRents$Borough" (3 : Nat) ({ cls := "java/lang/Object", name := "<init>", desc := "()V" } : Jvm.MethodName)) ∈ lw_all := lw_g (lw_at lw_m1 49 rfl) rfl
theorem q200 : (Jvm.Cond.classLink "GingerRents$Borough" (9 : Nat) "GingerRents$House") ∈ lw_all := lw_g (lw_at lw_m1 50 rfl) rfl
theorem q202 : (Jvm.Cond.classLink "GingerRents$Borough" (17 : Nat) "[[I") ∈ lw_all := lw_g (lw_at lw_m1 52 rfl) rfl
theorem q204 : (Jvm.Cond.classLink "GingerRents$Borough" (22 : Nat) "GingerRents$Rows") ∈ lw_all := lw_g (lw_at lw_m1 54 rfl) rfl
theorem q206 : (Jvm.Cond.methodLink "GingerRents$Borough" (24 : Nat) ({ cls := "GingerRents$Rows", name := "<init>", desc := "(I)V" } : Jvm.MethodName)) ∈ lw_all := lw_g (lw_at lw_m1 56 rfl) rfl
theorem q221 : (Jvm.Cond.classLink "GingerRents$Borough" (52 : Nat) "java/util/ArrayList") ∈ lw_all := lw_g (lw_at lw_m1 71 rfl) rfl
theorem q223 : (Jvm.Cond.methodLink "GingerRents$Borough" (54 : Nat) ({ cls := "java/util/ArrayList", name := "<init>", desc := "()V" } : Jvm.MethodName)) ∈ lw_all := lw_g (lw_at lw_m1 73 rfl) rfl
theorem q248 : (Jvm.Cond.methodLinkNest "GingerRents$Borough" (69 : Nat) ({ cls := "GingerRents$House", name := "<init>", desc := "()V" } : Jvm.MethodName) "GingerRents") ∈ lw_tbl := lw_at lw_m1 98 rfl
theorem q253 : (Jvm.Cond.fieldLinkNest "GingerRents$Borough" (130 : Nat) "GingerRents$House" "wall" "[I" "GingerRents") ∈ lw_tbl := lw_at lw_m1 103 rfl
theorem q256 : (Jvm.Cond.fieldLinkNest "GingerRents$Borough" (140 : Nat) "GingerRents$House" "almonds" "I" "GingerRents") ∈ lw_tbl := lw_at lw_m1 106 rfl
theorem q259 : (Jvm.Cond.fieldLinkNest "GingerRents$Borough" (143 : Nat) "GingerRents$House" "teeth" "I" "GingerRents") ∈ lw_tbl := lw_at lw_m1 109 rfl
theorem q262 : (Jvm.Cond.fieldLinkNest "GingerRents$Borough" (146 : Nat) "GingerRents$House" "hard" "I" "GingerRents") ∈ lw_tbl := lw_at lw_m1 112 rfl
theorem q266 : (Jvm.Cond.fieldLinkNest "GingerRents$Borough" (149 : Nat) "GingerRents$House" "icing" "I" "GingerRents") ∈ lw_tbl := lw_at lw_m1 116 rfl
theorem q269 : (Jvm.Cond.fieldLinkNest "GingerRents$Borough" (152 : Nat) "GingerRents$House" "lodgers" "I" "GingerRents") ∈ lw_tbl := lw_at lw_m1 119 rfl
theorem q272 : (Jvm.Cond.fieldLinkNest "GingerRents$Borough" (158 : Nat) "GingerRents$House" "age" "I" "GingerRents") ∈ lw_tbl := lw_at lw_m1 122 rfl
theorem q275 : (Jvm.Cond.fieldLinkNest "GingerRents$Borough" (155 : Nat) "GingerRents$House" "hasDoor" "Z" "GingerRents") ∈ lw_tbl := lw_at lw_m1 125 rfl
theorem q294 : (Jvm.Cond.fieldLink "GingerRents$Borough" (11 : Nat) "GingerRents$Borough" "house" "[LGingerRents$House;") ∈ lw_all := lw_g (lw_at lw_m1 144 rfl) rfl
theorem q299 : (Jvm.Cond.fieldLink "GingerRents$Borough" (19 : Nat) "GingerRents$Borough" "book" "[[I") ∈ lw_all := lw_g (lw_at lw_m1 149 rfl) rfl
theorem q301 : (Jvm.Cond.fieldLink "GingerRents$Borough" (27 : Nat) "GingerRents$Borough" "pieces" "LGingerRents$Rows;") ∈ lw_all := lw_g (lw_at lw_m1 151 rfl) rfl
theorem q303 : (Jvm.Cond.fieldLink "GingerRents$Borough" (31 : Nat) "GingerRents$Borough" "doughs" "LGingerRents$Rows;") ∈ lw_all := lw_g (lw_at lw_m1 153 rfl) rfl
theorem q305 : (Jvm.Cond.fieldLink "GingerRents$Borough" (34 : Nat) "GingerRents$Borough" "marks" "LGingerRents$Rows;") ∈ lw_all := lw_g (lw_at lw_m1 155 rfl) rfl
theorem q307 : (Jvm.Cond.fieldLink "GingerRents$Borough" (37 : Nat) "GingerRents$Borough" "bites" "LGingerRents$Rows;") ∈ lw_all := lw_g (lw_at lw_m1 157 rfl) rfl
theorem q309 : (Jvm.Cond.fieldLink "GingerRents$Borough" (40 : Nat) "GingerRents$Borough" "crumbs" "LGingerRents$Rows;") ∈ lw_all := lw_g (lw_at lw_m1 159 rfl) rfl
theorem q311 : (Jvm.Cond.fieldLink "GingerRents$Borough" (43 : Nat) "GingerRents$Borough" "loaves" "LGingerRents$Rows;") ∈ lw_all := lw_g (lw_at lw_m1 161 rfl) rfl
theorem q313 : (Jvm.Cond.fieldLink "GingerRents$Borough" (46 : Nat) "GingerRents$Borough" "heirs" "LGingerRents$Rows;") ∈ lw_all := lw_g (lw_at lw_m1 163 rfl) rfl
theorem q315 : (Jvm.Cond.fieldLink "GingerRents$Borough" (49 : Nat) "GingerRents$Borough" "members" "LGingerRents$Rows;") ∈ lw_all := lw_g (lw_at lw_m1 165 rfl) rfl
theorem q317 : (Jvm.Cond.fieldLink "GingerRents$Borough" (55 : Nat) "GingerRents$Borough" "law" "Ljava/util/ArrayList;") ∈ lw_all := lw_g (lw_at lw_m1 167 rfl) rfl
theorem q319 : (Jvm.Cond.fieldLink "GingerRents$Borough" (59 : Nat) "GingerRents$Borough" "sky" "Ljava/util/ArrayList;") ∈ lw_all := lw_g (lw_at lw_m1 169 rfl) rfl
theorem q321 : (Jvm.Cond.fieldLink "GingerRents$Borough" (62 : Nat) "GingerRents$Borough" "office" "Ljava/util/ArrayList;") ∈ lw_all := lw_g (lw_at lw_m1 171 rfl) rfl
theorem q323 : (Jvm.Cond.fieldLink "GingerRents$Borough" (65 : Nat) "GingerRents$Borough" "nextTo" "[I") ∈ lw_all := lw_g (lw_at lw_m1 173 rfl) rfl
theorem q325 : (Jvm.Cond.fieldLink "GingerRents$Borough" (100 : Nat) "GingerRents$Borough" "houses" "I") ∈ lw_all := lw_g (lw_at lw_m1 175 rfl) rfl
theorem q329 : (Jvm.Cond.fieldLink "GingerRents$Borough" (74 : Nat) "GingerRents$Borough" "rain" "I") ∈ lw_all := lw_g (lw_at lw_m1 179 rfl) rfl
theorem q332 : (Jvm.Cond.fieldLink "GingerRents$Borough" (78 : Nat) "GingerRents$Borough" "frost" "I") ∈ lw_all := lw_g (lw_at lw_m1 182 rfl) rfl
theorem q334 : (Jvm.Cond.fieldLink "GingerRents$Borough" (81 : Nat) "GingerRents$Borough" "eaten" "I") ∈ lw_all := lw_g (lw_at lw_m1 184 rfl) rfl
theorem q336 : (Jvm.Cond.fieldLink "GingerRents$Borough" (84 : Nat) "GingerRents$Borough" "gnawed" "I") ∈ lw_all := lw_g (lw_at lw_m1 186 rfl) rfl
theorem q338 : (Jvm.Cond.fieldLink "GingerRents$Borough" (87 : Nat) "GingerRents$Borough" "quarter" "I") ∈ lw_all := lw_g (lw_at lw_m1 188 rfl) rfl
theorem q340 : (Jvm.Cond.fieldLink "GingerRents$Borough" (90 : Nat) "GingerRents$Borough" "state" "I") ∈ lw_all := lw_g (lw_at lw_m1 190 rfl) rfl
theorem q342 : (Jvm.Cond.fieldLink "GingerRents$Borough" (93 : Nat) "GingerRents$Borough" "lines" "I") ∈ lw_all := lw_g (lw_at lw_m1 192 rfl) rfl
theorem q344 : (Jvm.Cond.fieldLink "GingerRents$Borough" (103 : Nat) "GingerRents$Borough" "nextLines" "I") ∈ lw_all := lw_g (lw_at lw_m1 194 rfl) rfl
theorem q347 : (Jvm.Cond.fieldLink "GingerRents$Borough" (114 : Nat) "GingerRents$Borough" "isThought" "Z") ∈ lw_all := lw_g (lw_at lw_m1 197 rfl) rfl
theorem q348 : (Jvm.Cond.fieldLink "GingerRents$Borough" (126 : Nat) "GingerRents$Borough" "asked" "LGingerRents$House;") ∈ lw_all := lw_g (lw_at lw_m1 198 rfl) rfl
theorem q349 : (Jvm.Cond.fieldLink "GingerRents$Borough" (133 : Nat) "GingerRents$Borough" "askedWall" "I") ∈ lw_all := lw_g (lw_at lw_m1 199 rfl) rfl
theorem q350 : (Jvm.Cond.laysFinal "GingerRents$Borough" "GingerRents$Borough" "house" "[LGingerRents$House;") ∈ lw_all := lw_g (lw_at lw_m1 200 rfl) rfl
theorem q351 : (Jvm.Cond.soleField "GingerRents$Borough" "house") ∈ lw_all := lw_g (lw_at lw_m1 201 rfl) rfl
theorem q352 : (Jvm.Cond.laysFinal "GingerRents$Borough" "GingerRents$Borough" "book" "[[I") ∈ lw_all := lw_g (lw_at lw_m1 202 rfl) rfl
theorem q353 : (Jvm.Cond.soleField "GingerRents$Borough" "book") ∈ lw_all := lw_g (lw_at lw_m1 203 rfl) rfl
theorem q354 : (Jvm.Cond.laysFinal "GingerRents$Borough" "GingerRents$Borough" "pieces" "LGingerRents$Rows;") ∈ lw_all := lw_g (lw_at lw_m1 204 rfl) rfl
theorem q355 : (Jvm.Cond.soleField "GingerRents$Borough" "pieces") ∈ lw_all := lw_g (lw_at lw_m1 205 rfl) rfl
theorem q356 : (Jvm.Cond.laysFinal "GingerRents$Borough" "GingerRents$Borough" "doughs" "LGingerRents$Rows;") ∈ lw_all := lw_g (lw_at lw_m1 206 rfl) rfl
theorem q357 : (Jvm.Cond.soleField "GingerRents$Borough" "doughs") ∈ lw_all := lw_g (lw_at lw_m1 207 rfl) rfl
theorem q358 : (Jvm.Cond.laysFinal "GingerRents$Borough" "GingerRents$Borough" "marks" "LGingerRents$Rows;") ∈ lw_all := lw_g (lw_at lw_m1 208 rfl) rfl
theorem q359 : (Jvm.Cond.soleField "GingerRents$Borough" "marks") ∈ lw_all := lw_g (lw_at lw_m1 209 rfl) rfl
theorem q360 : (Jvm.Cond.laysFinal "GingerRents$Borough" "GingerRents$Borough" "bites" "LGingerRents$Rows;") ∈ lw_all := lw_g (lw_at lw_m1 210 rfl) rfl
theorem q361 : (Jvm.Cond.soleField "GingerRents$Borough" "bites") ∈ lw_all := lw_g (lw_at lw_m1 211 rfl) rfl
theorem q362 : (Jvm.Cond.laysFinal "GingerRents$Borough" "GingerRents$Borough" "crumbs" "LGingerRents$Rows;") ∈ lw_all := lw_g (lw_at lw_m1 212 rfl) rfl
theorem q363 : (Jvm.Cond.soleField "GingerRents$Borough" "crumbs") ∈ lw_all := lw_g (lw_at lw_m1 213 rfl) rfl
theorem q364 : (Jvm.Cond.laysFinal "GingerRents$Borough" "GingerRents$Borough" "loaves" "LGingerRents$Rows;") ∈ lw_all := lw_g (lw_at lw_m1 214 rfl) rfl
theorem q365 : (Jvm.Cond.soleField "GingerRents$Borough" "loaves") ∈ lw_all := lw_g (lw_at lw_m1 215 rfl) rfl
theorem q366 : (Jvm.Cond.laysFinal "GingerRents$Borough" "GingerRents$Borough" "heirs" "LGingerRents$Rows;") ∈ lw_all := lw_g (lw_at lw_m1 216 rfl) rfl
theorem q367 : (Jvm.Cond.soleField "GingerRents$Borough" "heirs") ∈ lw_all := lw_g (lw_at lw_m1 217 rfl) rfl
theorem q368 : (Jvm.Cond.laysFinal "GingerRents$Borough" "GingerRents$Borough" "members" "LGingerRents$Rows;") ∈ lw_all := lw_g (lw_at lw_m1 218 rfl) rfl
theorem q369 : (Jvm.Cond.soleField "GingerRents$Borough" "members") ∈ lw_all := lw_g (lw_at lw_m1 219 rfl) rfl
theorem q370 : (Jvm.Cond.lays "GingerRents$Borough" "GingerRents$Borough" "law" "Ljava/util/ArrayList;") ∈ lw_all := lw_g (lw_at lw_m1 220 rfl) rfl
theorem q371 : (Jvm.Cond.soleField "GingerRents$Borough" "law") ∈ lw_all := lw_g (lw_at lw_m1 221 rfl) rfl
theorem q372 : (Jvm.Cond.lays "GingerRents$Borough" "GingerRents$Borough" "sky" "Ljava/util/ArrayList;") ∈ lw_all := lw_g (lw_at lw_m1 222 rfl) rfl
theorem q373 : (Jvm.Cond.soleField "GingerRents$Borough" "sky") ∈ lw_all := lw_g (lw_at lw_m1 223 rfl) rfl
theorem q374 : (Jvm.Cond.lays "GingerRents$Borough" "GingerRents$Borough" "office" "Ljava/util/ArrayList;") ∈ lw_all := lw_g (lw_at lw_m1 224 rfl) rfl
theorem q375 : (Jvm.Cond.soleField "GingerRents$Borough" "office") ∈ lw_all := lw_g (lw_at lw_m1 225 rfl) rfl
theorem q376 : (Jvm.Cond.lays "GingerRents$Borough" "GingerRents$Borough" "nextTo" "[I") ∈ lw_all := lw_g (lw_at lw_m1 226 rfl) rfl
theorem q377 : (Jvm.Cond.soleField "GingerRents$Borough" "nextTo") ∈ lw_all := lw_g (lw_at lw_m1 227 rfl) rfl
theorem q378 : (Jvm.Cond.lays "GingerRents$Borough" "GingerRents$Borough" "houses" "I") ∈ lw_all := lw_g (lw_at lw_m1 228 rfl) rfl
theorem q379 : (Jvm.Cond.soleField "GingerRents$Borough" "houses") ∈ lw_all := lw_g (lw_at lw_m1 229 rfl) rfl
theorem q380 : (Jvm.Cond.lays "GingerRents$Borough" "GingerRents$Borough" "rain" "I") ∈ lw_all := lw_g (lw_at lw_m1 230 rfl) rfl
theorem q381 : (Jvm.Cond.soleField "GingerRents$Borough" "rain") ∈ lw_all := lw_g (lw_at lw_m1 231 rfl) rfl
theorem q382 : (Jvm.Cond.lays "GingerRents$Borough" "GingerRents$Borough" "frost" "I") ∈ lw_all := lw_g (lw_at lw_m1 232 rfl) rfl
theorem q383 : (Jvm.Cond.soleField "GingerRents$Borough" "frost") ∈ lw_all := lw_g (lw_at lw_m1 233 rfl) rfl
theorem q384 : (Jvm.Cond.lays "GingerRents$Borough" "GingerRents$Borough" "eaten" "I") ∈ lw_all := lw_g (lw_at lw_m1 234 rfl) rfl
theorem q385 : (Jvm.Cond.soleField "GingerRents$Borough" "eaten") ∈ lw_all := lw_g (lw_at lw_m1 235 rfl) rfl
theorem q386 : (Jvm.Cond.lays "GingerRents$Borough" "GingerRents$Borough" "gnawed" "I") ∈ lw_all := lw_g (lw_at lw_m1 236 rfl) rfl
theorem q387 : (Jvm.Cond.soleField "GingerRents$Borough" "gnawed") ∈ lw_all := lw_g (lw_at lw_m1 237 rfl) rfl
theorem q388 : (Jvm.Cond.lays "GingerRents$Borough" "GingerRents$Borough" "quarter" "I") ∈ lw_all := lw_g (lw_at lw_m1 238 rfl) rfl
theorem q389 : (Jvm.Cond.soleField "GingerRents$Borough" "quarter") ∈ lw_all := lw_g (lw_at lw_m1 239 rfl) rfl
theorem q390 : (Jvm.Cond.lays "GingerRents$Borough" "GingerRents$Borough" "state" "I") ∈ lw_all := lw_g (lw_at lw_m2 0 rfl) rfl
theorem q391 : (Jvm.Cond.soleField "GingerRents$Borough" "state") ∈ lw_all := lw_g (lw_at lw_m2 1 rfl) rfl
theorem q392 : (Jvm.Cond.lays "GingerRents$Borough" "GingerRents$Borough" "lines" "I") ∈ lw_all := lw_g (lw_at lw_m2 2 rfl) rfl
theorem q393 : (Jvm.Cond.soleField "GingerRents$Borough" "lines") ∈ lw_all := lw_g (lw_at lw_m2 3 rfl) rfl
theorem q394 : (Jvm.Cond.lays "GingerRents$Borough" "GingerRents$Borough" "nextLines" "I") ∈ lw_all := lw_g (lw_at lw_m2 4 rfl) rfl
theorem q395 : (Jvm.Cond.soleField "GingerRents$Borough" "nextLines") ∈ lw_all := lw_g (lw_at lw_m2 5 rfl) rfl
theorem q396 : (Jvm.Cond.lays "GingerRents$Borough" "GingerRents$Borough" "isThought" "Z") ∈ lw_all := lw_g (lw_at lw_m2 6 rfl) rfl
theorem q397 : (Jvm.Cond.soleField "GingerRents$Borough" "isThought") ∈ lw_all := lw_g (lw_at lw_m2 7 rfl) rfl
theorem q398 : (Jvm.Cond.lays "GingerRents$Borough" "GingerRents$Borough" "asked" "LGingerRents$House;") ∈ lw_all := lw_g (lw_at lw_m2 8 rfl) rfl
theorem q399 : (Jvm.Cond.soleField "GingerRents$Borough" "asked") ∈ lw_all := lw_g (lw_at lw_m2 9 rfl) rfl
theorem q400 : (Jvm.Cond.lays "GingerRents$Borough" "GingerRents$Borough" "askedWall" "I") ∈ lw_all := lw_g (lw_at lw_m2 10 rfl) rfl
theorem q401 : (Jvm.Cond.soleField "GingerRents$Borough" "askedWall") ∈ lw_all := lw_g (lw_at lw_m2 11 rfl) rfl
theorem q402 : (Jvm.Cond.superclass "GingerRents$Borough" "java/lang/Object") ∈ lw_all := lw_g (lw_at lw_m2 12 rfl) rfl
theorem q807 : (Jvm.Cond.fieldLinkNest "GingerRents$Borough" (170 : Nat) "GingerRents$Line" "word" "I" "GingerRents") ∈ lw_tbl := lw_at lw_m3 177 rfl
theorem q809 : (Jvm.Cond.fieldLinkNest "GingerRents$Borough" (183 : Nat) "GingerRents$Line" "comesTo" "LGingerRents$Term;" "GingerRents") ∈ lw_tbl := lw_at lw_m3 179 rfl
theorem q811 : (Jvm.Cond.fieldLinkNest "GingerRents$Borough" (173 : Nat) "GingerRents$Line" "when" "LGingerRents$Term;" "GingerRents") ∈ lw_tbl := lw_at lw_m3 181 rfl
theorem q853 : (Jvm.Cond.selects "GingerRents$Borough" ({ cls := "java/lang/Object", name := "getClass", desc := "()Ljava/lang/Class;" } : Jvm.MethodName) ({ cls := "java/lang/Object", name := "getClass", desc := "()Ljava/lang/Class;" } : Jvm.MethodName)) ∈ lw_all := lw_g (lw_at lw_m3 223 rfl) rfl
theorem q989 : (Jvm.Cond.instanceMethod ({ cls := "GingerRents$Borough", name := "moves", desc := "(LGingerRents$Borough;)V" } : Jvm.MethodName)) ∈ lw_all := lw_g (lw_at lw_m4 119 rfl) rfl
theorem q990 : (Jvm.Cond.selects "GingerRents$Borough" ({ cls := "GingerRents$Borough", name := "moves", desc := "(LGingerRents$Borough;)V" } : Jvm.MethodName) ({ cls := "GingerRents$Borough", name := "moves", desc := "(LGingerRents$Borough;)V" } : Jvm.MethodName)) ∈ lw_all := lw_g (lw_at lw_m4 120 rfl) rfl
theorem q991 : (Jvm.Cond.code ({ cls := "GingerRents$Borough", name := "moves", desc := "(LGingerRents$Borough;)V" } : Jvm.MethodName) prog_4_method_2_code (3 : Nat) (Option.none : Option Jvm.ClassFile.FieldType)) ∈ lw_all := lw_g (lw_at lw_m4 121 rfl) rfl
theorem q992 : (Jvm.Cond.methodLink "GingerRents$Borough" (70 : Nat) ({ cls := "GingerRents$House", name := "takes", desc := "(LGingerRents$House;)V" } : Jvm.MethodName)) ∈ lw_all := lw_g (lw_at lw_m4 122 rfl) rfl
theorem q1033 : (Jvm.Cond.instanceMethod ({ cls := "GingerRents$Borough", name := "canWed", desc := "(I)Z" } : Jvm.MethodName)) ∈ lw_all := lw_g (lw_at lw_m4 163 rfl) rfl
theorem q1034 : (Jvm.Cond.selects "GingerRents$Borough" ({ cls := "GingerRents$Borough", name := "canWed", desc := "(I)Z" } : Jvm.MethodName) ({ cls := "GingerRents$Borough", name := "canWed", desc := "(I)Z" } : Jvm.MethodName)) ∈ lw_all := lw_g (lw_at lw_m4 164 rfl) rfl
theorem q1035 : (Jvm.Cond.code ({ cls := "GingerRents$Borough", name := "canWed", desc := "(I)Z" } : Jvm.MethodName) prog_4_method_16_code (2 : Nat) (Option.some Jvm.ClassFile.FieldType.boolean)) ∈ lw_all := lw_g (lw_at lw_m4 165 rfl) rfl
theorem q1036 : (Jvm.Cond.methodLink "GingerRents$Borough" (122 : Nat) ({ cls := "GingerRents$House", name := "stands", desc := "()Z" } : Jvm.MethodName)) ∈ lw_all := lw_g (lw_at lw_m4 166 rfl) rfl
theorem q1050 : (Jvm.Cond.instanceMethod ({ cls := "GingerRents$Borough", name := "weds", desc := "(I)V" } : Jvm.MethodName)) ∈ lw_all := lw_g (lw_at lw_m4 180 rfl) rfl
theorem q1051 : (Jvm.Cond.selects "GingerRents$Borough" ({ cls := "GingerRents$Borough", name := "weds", desc := "(I)V" } : Jvm.MethodName) ({ cls := "GingerRents$Borough", name := "weds", desc := "(I)V" } : Jvm.MethodName)) ∈ lw_all := lw_g (lw_at lw_m4 181 rfl) rfl
theorem q1052 : (Jvm.Cond.code ({ cls := "GingerRents$Borough", name := "weds", desc := "(I)V" } : Jvm.MethodName) prog_4_method_17_code (3 : Nat) (Option.none : Option Jvm.ClassFile.FieldType)) ∈ lw_all := lw_g (lw_at lw_m4 182 rfl) rfl
theorem q1053 : (Jvm.Cond.methodLink "GingerRents$Borough" (190 : Nat) ({ cls := "GingerRents$House", name := "thickest", desc := "()I" } : Jvm.MethodName)) ∈ lw_all := lw_g (lw_at lw_m4 183 rfl) rfl
theorem q1057 : (Jvm.Cond.methodLink "GingerRents$Borough" (209 : Nat) ({ cls := "GingerRents$House", name := "loses", desc := "(II)I" } : Jvm.MethodName)) ∈ lw_all := lw_g (lw_at lw_m4 187 rfl) rfl
theorem q1062 : (Jvm.Cond.methodLink "GingerRents$Borough" (118 : Nat) ({ cls := "GingerRents$Borough", name := "notes", desc := "(III)V" } : Jvm.MethodName)) ∈ lw_all := lw_g (lw_at lw_m4 192 rfl) rfl
theorem q1063 : (Jvm.Cond.privateMethod ({ cls := "GingerRents$Borough", name := "notes", desc := "(III)V" } : Jvm.MethodName)) ∈ lw_tbl := lw_at lw_m4 193 rfl
theorem q1064 : (Jvm.Cond.instanceMethod ({ cls := "GingerRents$Borough", name := "notes", desc := "(III)V" } : Jvm.MethodName)) ∈ lw_all := lw_g (lw_at lw_m4 194 rfl) rfl
theorem q1065 : (Jvm.Cond.code ({ cls := "GingerRents$Borough", name := "notes", desc := "(III)V" } : Jvm.MethodName) prog_4_method_6_code (5 : Nat) (Option.none : Option Jvm.ClassFile.FieldType)) ∈ lw_all := lw_g (lw_at lw_m4 195 rfl) rfl
theorem q1066 : (Jvm.Cond.methodLink "GingerRents$Borough" (213 : Nat) ({ cls := "GingerRents$Borough", name := "leaves", desc := "(I)V" } : Jvm.MethodName)) ∈ lw_all := lw_g (lw_at lw_m4 196 rfl) rfl
theorem q1067 : (Jvm.Cond.instanceMethod ({ cls := "GingerRents$Borough", name := "leaves", desc := "(I)V" } : Jvm.MethodName)) ∈ lw_all := lw_g (lw_at lw_m4 197 rfl) rfl
theorem q1068 : (Jvm.Cond.selects "GingerRents$Borough" ({ cls := "GingerRents$Borough", name := "leaves", desc := "(I)V" } : Jvm.MethodName) ({ cls := "GingerRents$Borough", name := "leaves", desc := "(I)V" } : Jvm.MethodName)) ∈ lw_all := lw_g (lw_at lw_m4 198 rfl) rfl
theorem q1069 : (Jvm.Cond.code ({ cls := "GingerRents$Borough", name := "leaves", desc := "(I)V" } : Jvm.MethodName) prog_4_method_15_code (3 : Nat) (Option.none : Option Jvm.ClassFile.FieldType)) ∈ lw_all := lw_g (lw_at lw_m4 199 rfl) rfl
theorem q1070 : (Jvm.Cond.methodLink "GingerRents$Borough" (197 : Nat) ({ cls := "GingerRents$Borough", name := "standing", desc := "()I" } : Jvm.MethodName)) ∈ lw_all := lw_g (lw_at lw_m4 200 rfl) rfl
theorem q1071 : (Jvm.Cond.instanceMethod ({ cls := "GingerRents$Borough", name := "standing", desc := "()I" } : Jvm.MethodName)) ∈ lw_all := lw_g (lw_at lw_m4 201 rfl) rfl
theorem q1072 : (Jvm.Cond.selects "GingerRents$Borough" ({ cls := "GingerRents$Borough", name := "standing", desc := "()I" } : Jvm.MethodName) ({ cls := "GingerRents$Borough", name := "standing", desc := "()I" } : Jvm.MethodName)) ∈ lw_all := lw_g (lw_at lw_m4 202 rfl) rfl
theorem q1073 : (Jvm.Cond.code ({ cls := "GingerRents$Borough", name := "standing", desc := "()I" } : Jvm.MethodName) prog_4_method_8_code (3 : Nat) (Option.some Jvm.ClassFile.FieldType.int)) ∈ lw_all := lw_g (lw_at lw_m4 203 rfl) rfl
theorem q1074 : (Jvm.Cond.methodLink "GingerRents$Borough" (200 : Nat) ({ cls := "java/lang/Integer", name := "numberOfTrailingZeros", desc := "(I)I" } : Jvm.MethodName)) ∈ lw_all := lw_g (lw_at lw_m4 204 rfl) rfl
theorem q1078 : (Jvm.Cond.methodLink "GingerRents$Borough" (206 : Nat) ({ cls := "GingerRents$Borough", name := "moves", desc := "(II)V" } : Jvm.MethodName)) ∈ lw_all := lw_g (lw_at lw_m4 208 rfl) rfl
theorem q1079 : (Jvm.Cond.instanceMethod ({ cls := "GingerRents$Borough", name := "moves", desc := "(II)V" } : Jvm.MethodName)) ∈ lw_all := lw_g (lw_at lw_m4 209 rfl) rfl
theorem q1080 : (Jvm.Cond.selects "GingerRents$Borough" ({ cls := "GingerRents$Borough", name := "moves", desc := "(II)V" } : Jvm.MethodName) ({ cls := "GingerRents$Borough", name := "moves", desc := "(II)V" } : Jvm.MethodName)) ∈ lw_all := lw_g (lw_at lw_m4 210 rfl) rfl
theorem q1081 : (Jvm.Cond.code ({ cls := "GingerRents$Borough", name := "moves", desc := "(II)V" } : Jvm.MethodName) prog_4_method_14_code (3 : Nat) (Option.none : Option Jvm.ClassFile.FieldType)) ∈ lw_all := lw_g (lw_at lw_m4 211 rfl) rfl
theorem q1084 : (Jvm.Cond.instanceMethod ({ cls := "GingerRents$Borough", name := "razes", desc := "(I)V" } : Jvm.MethodName)) ∈ lw_all := lw_g (lw_at lw_m4 214 rfl) rfl
theorem q1085 : (Jvm.Cond.selects "GingerRents$Borough" ({ cls := "GingerRents$Borough", name := "razes", desc := "(I)V" } : Jvm.MethodName) ({ cls := "GingerRents$Borough", name := "razes", desc := "(I)V" } : Jvm.MethodName)) ∈ lw_all := lw_g (lw_at lw_m4 215 rfl) rfl
theorem q1086 : (Jvm.Cond.code ({ cls := "GingerRents$Borough", name := "razes", desc := "(I)V" } : Jvm.MethodName) prog_4_method_18_code (3 : Nat) (Option.none : Option Jvm.ClassFile.FieldType)) ∈ lw_all := lw_g (lw_at lw_m4 216 rfl) rfl
theorem q1088 : (Jvm.Cond.instanceMethod ({ cls := "GingerRents$Borough", name := "nibbles", desc := "(III)V" } : Jvm.MethodName)) ∈ lw_all := lw_g (lw_at lw_m4 218 rfl) rfl
theorem q1089 : (Jvm.Cond.selects "GingerRents$Borough" ({ cls := "GingerRents$Borough", name := "nibbles", desc := "(III)V" } : Jvm.MethodName) ({ cls := "GingerRents$Borough", name := "nibbles", desc := "(III)V" } : Jvm.MethodName)) ∈ lw_all := lw_g (lw_at lw_m4 219 rfl) rfl
theorem q1090 : (Jvm.Cond.code ({ cls := "GingerRents$Borough", name := "nibbles", desc := "(III)V" } : Jvm.MethodName) prog_4_method_19_code (4 : Nat) (Option.none : Option Jvm.ClassFile.FieldType)) ∈ lw_all := lw_g (lw_at lw_m4 220 rfl) rfl
theorem q1100 : (Jvm.Cond.instanceMethod ({ cls := "GingerRents$Borough", name := "passes", desc := "()I" } : Jvm.MethodName)) ∈ lw_all := lw_g (lw_at lw_m4 230 rfl) rfl
theorem q1101 : (Jvm.Cond.selects "GingerRents$Borough" ({ cls := "GingerRents$Borough", name := "passes", desc := "()I" } : Jvm.MethodName) ({ cls := "GingerRents$Borough", name := "passes", desc := "()I" } : Jvm.MethodName)) ∈ lw_all := lw_g (lw_at lw_m4 231 rfl) rfl
theorem q1102 : (Jvm.Cond.code ({ cls := "GingerRents$Borough", name := "passes", desc := "()I" } : Jvm.MethodName) prog_4_method_23_code (3 : Nat) (Option.some Jvm.ClassFile.FieldType.int)) ∈ lw_all := lw_g (lw_at lw_m4 232 rfl) rfl
theorem q1103 : (Jvm.Cond.methodLink "GingerRents$Borough" (161 : Nat) ({ cls := "java/util/ArrayList", name := "size", desc := "()I" } : Jvm.MethodName)) ∈ lw_all := lw_g (lw_at lw_m4 233 rfl) rfl
theorem q1104 : (Jvm.Cond.methodLink "GingerRents$Borough" (164 : Nat) ({ cls := "java/util/ArrayList", name := "get", desc := "(I)Ljava/lang/Object;" } : Jvm.MethodName)) ∈ lw_all := lw_g (lw_at lw_m4 234 rfl) rfl
theorem q1116 : (Jvm.Cond.classLink "GingerRents$Borough" (238 : Nat) "GingerRents$Entry") ∈ lw_all := lw_g (lw_at lw_m5 6 rfl) rfl
theorem q1117 : (Jvm.Cond.methodLink "GingerRents$Borough" (240 : Nat) ({ cls := "GingerRents$Entry", name := "isOf", desc := "(I)Z" } : Jvm.MethodName)) ∈ lw_all := lw_g (lw_at lw_m5 7 rfl) rfl
theorem q1127 : (Jvm.Cond.methodLink "GingerRents$Borough" (244 : Nat) ({ cls := "GingerRents$Entry", name := "comes", desc := "(LGingerRents$Borough;)V" } : Jvm.MethodName)) ∈ lw_all := lw_g (lw_at lw_m5 17 rfl) rfl
theorem q1175 : (Jvm.Cond.methodLink "GingerRents$Borough" (247 : Nat) ({ cls := "GingerRents$Borough", name := "pays", desc := "(I)V" } : Jvm.MethodName)) ∈ lw_all := lw_g (lw_at lw_m5 65 rfl) rfl
theorem q1176 : (Jvm.Cond.privateMethod ({ cls := "GingerRents$Borough", name := "pays", desc := "(I)V" } : Jvm.MethodName)) ∈ lw_tbl := lw_at lw_m5 66 rfl
theorem q1177 : (Jvm.Cond.instanceMethod ({ cls := "GingerRents$Borough", name := "pays", desc := "(I)V" } : Jvm.MethodName)) ∈ lw_all := lw_g (lw_at lw_m5 67 rfl) rfl
theorem q1178 : (Jvm.Cond.code ({ cls := "GingerRents$Borough", name := "pays", desc := "(I)V" } : Jvm.MethodName) prog_4_method_20_code (5 : Nat) (Option.none : Option Jvm.ClassFile.FieldType)) ∈ lw_all := lw_g (lw_at lw_m5 68 rfl) rfl
theorem q1179 : (Jvm.Cond.methodLink "GingerRents$Borough" (216 : Nat) ({ cls := "GingerRents$Borough", name := "rent", desc := "(LGingerRents$House;)I" } : Jvm.MethodName)) ∈ lw_all := lw_g (lw_at lw_m5 69 rfl) rfl
theorem q1180 : (Jvm.Cond.instanceMethod ({ cls := "GingerRents$Borough", name := "rent", desc := "(LGingerRents$House;)I" } : Jvm.MethodName)) ∈ lw_all := lw_g (lw_at lw_m5 70 rfl) rfl
theorem q1181 : (Jvm.Cond.selects "GingerRents$Borough" ({ cls := "GingerRents$Borough", name := "rent", desc := "(LGingerRents$House;)I" } : Jvm.MethodName) ({ cls := "GingerRents$Borough", name := "rent", desc := "(LGingerRents$House;)I" } : Jvm.MethodName)) ∈ lw_all := lw_g (lw_at lw_m5 71 rfl) rfl
theorem q1182 : (Jvm.Cond.code ({ cls := "GingerRents$Borough", name := "rent", desc := "(LGingerRents$House;)I" } : Jvm.MethodName) prog_4_method_11_code (2 : Nat) (Option.some Jvm.ClassFile.FieldType.int)) ∈ lw_all := lw_g (lw_at lw_m5 72 rfl) rfl
theorem q1183 : (Jvm.Cond.methodLink "GingerRents$Borough" (193 : Nat) ({ cls := "GingerRents$Borough", name := "tells", desc := "(ILGingerRents$House;III)I" } : Jvm.MethodName)) ∈ lw_all := lw_g (lw_at lw_m5 73 rfl) rfl
theorem q1184 : (Jvm.Cond.privateMethod ({ cls := "GingerRents$Borough", name := "tells", desc := "(ILGingerRents$House;III)I" } : Jvm.MethodName)) ∈ lw_tbl := lw_at lw_m5 74 rfl
theorem q1185 : (Jvm.Cond.instanceMethod ({ cls := "GingerRents$Borough", name := "tells", desc := "(ILGingerRents$House;III)I" } : Jvm.MethodName)) ∈ lw_all := lw_g (lw_at lw_m5 75 rfl) rfl
theorem q1186 : (Jvm.Cond.code ({ cls := "GingerRents$Borough", name := "tells", desc := "(ILGingerRents$House;III)I" } : Jvm.MethodName) prog_4_method_10_code (8 : Nat) (Option.some Jvm.ClassFile.FieldType.int)) ∈ lw_all := lw_g (lw_at lw_m5 76 rfl) rfl
theorem q1187 : (Jvm.Cond.classLink "GingerRents$Borough" (168 : Nat) "GingerRents$Line") ∈ lw_all := lw_g (lw_at lw_m5 77 rfl) rfl
theorem q1188 : (Jvm.Cond.methodLink "GingerRents$Borough" (177 : Nat) ({ cls := "GingerRents$Term", name := "of", desc := "(LGingerRents$Asker;)I" } : Jvm.MethodName)) ∈ lw_all := lw_g (lw_at lw_m5 78 rfl) rfl
theorem q1204 : (Jvm.Cond.castable "GingerRents$Borough" "GingerRents$Asker") ∈ lw_tbl := lw_at lw_m5 94 rfl
theorem q1205 : (Jvm.Cond.selects "GingerRents$Borough" ({ cls := "GingerRents$Asker", name := "fact", desc := "(I)I" } : Jvm.MethodName) ({ cls := "GingerRents$Borough", name := "fact", desc := "(I)I" } : Jvm.MethodName)) ∈ lw_all := lw_g (lw_at lw_m5 95 rfl) rfl
theorem q1206 : (Jvm.Cond.unhidden "GingerRents$Borough" "fact" "(I)I") ∈ lw_tbl := lw_at lw_m5 96 rfl
theorem q1207 : (Jvm.Cond.instanceMethod ({ cls := "GingerRents$Borough", name := "fact", desc := "(I)I" } : Jvm.MethodName)) ∈ lw_all := lw_g (lw_at lw_m5 97 rfl) rfl
theorem q1208 : (Jvm.Cond.publicMethod ({ cls := "GingerRents$Borough", name := "fact", desc := "(I)I" } : Jvm.MethodName)) ∈ lw_tbl := lw_at lw_m5 98 rfl
theorem q1209 : (Jvm.Cond.code ({ cls := "GingerRents$Borough", name := "fact", desc := "(I)I" } : Jvm.MethodName) prog_4_method_9_code (2 : Nat) (Option.some Jvm.ClassFile.FieldType.int)) ∈ lw_all := lw_g (lw_at lw_m5 99 rfl) rfl
theorem q1210 : (Jvm.Cond.methodLink "GingerRents$Borough" (136 : Nat) ({ cls := "GingerRents$House", name := "sum", desc := "()I" } : Jvm.MethodName)) ∈ lw_all := lw_g (lw_at lw_m5 100 rfl) rfl
theorem q1216 : (Jvm.Cond.methodLinkNest "GingerRents$Borough" (186 : Nat) ({ cls := "GingerRents", name := "bound", desc := "(III)I" } : Jvm.MethodName) "GingerRents") ∈ lw_tbl := lw_at lw_m5 106 rfl
theorem q1221 : (Jvm.Cond.methodLink "GingerRents$Borough" (220 : Nat) ({ cls := "GingerRents$Borough", name := "counts", desc := "(III)V" } : Jvm.MethodName)) ∈ lw_all := lw_g (lw_at lw_m5 111 rfl) rfl
theorem q1222 : (Jvm.Cond.privateMethod ({ cls := "GingerRents$Borough", name := "counts", desc := "(III)V" } : Jvm.MethodName)) ∈ lw_tbl := lw_at lw_m5 112 rfl
theorem q1223 : (Jvm.Cond.instanceMethod ({ cls := "GingerRents$Borough", name := "counts", desc := "(III)V" } : Jvm.MethodName)) ∈ lw_all := lw_g (lw_at lw_m5 113 rfl) rfl
theorem q1224 : (Jvm.Cond.code ({ cls := "GingerRents$Borough", name := "counts", desc := "(III)V" } : Jvm.MethodName) prog_4_method_7_code (4 : Nat) (Option.none : Option Jvm.ClassFile.FieldType)) ∈ lw_all := lw_g (lw_at lw_m5 114 rfl) rfl
theorem q1225 : (Jvm.Cond.methodLink "GingerRents$Borough" (250 : Nat) ({ cls := "GingerRents$Borough", name := "isGnawed", desc := "(I)V" } : Jvm.MethodName)) ∈ lw_all := lw_g (lw_at lw_m5 115 rfl) rfl
theorem q1226 : (Jvm.Cond.privateMethod ({ cls := "GingerRents$Borough", name := "isGnawed", desc := "(I)V" } : Jvm.MethodName)) ∈ lw_tbl := lw_at lw_m5 116 rfl
theorem q1227 : (Jvm.Cond.instanceMethod ({ cls := "GingerRents$Borough", name := "isGnawed", desc := "(I)V" } : Jvm.MethodName)) ∈ lw_all := lw_g (lw_at lw_m5 117 rfl) rfl
theorem q1228 : (Jvm.Cond.code ({ cls := "GingerRents$Borough", name := "isGnawed", desc := "(I)V" } : Jvm.MethodName) prog_4_method_21_code (6 : Nat) (Option.none : Option Jvm.ClassFile.FieldType)) ∈ lw_all := lw_g (lw_at lw_m5 118 rfl) rfl
theorem q1229 : (Jvm.Cond.methodLink "GingerRents$Borough" (223 : Nat) ({ cls := "GingerRents$Borough", name := "gnaws", desc := "(LGingerRents$House;I)I" } : Jvm.MethodName)) ∈ lw_all := lw_g (lw_at lw_m5 119 rfl) rfl
theorem q1230 : (Jvm.Cond.instanceMethod ({ cls := "GingerRents$Borough", name := "gnaws", desc := "(LGingerRents$House;I)I" } : Jvm.MethodName)) ∈ lw_all := lw_g (lw_at lw_m5 120 rfl) rfl
theorem q1231 : (Jvm.Cond.selects "GingerRents$Borough" ({ cls := "GingerRents$Borough", name := "gnaws", desc := "(LGingerRents$House;I)I" } : Jvm.MethodName) ({ cls := "GingerRents$Borough", name := "gnaws", desc := "(LGingerRents$House;I)I" } : Jvm.MethodName)) ∈ lw_all := lw_g (lw_at lw_m5 121 rfl) rfl
theorem q1232 : (Jvm.Cond.code ({ cls := "GingerRents$Borough", name := "gnaws", desc := "(LGingerRents$House;I)I" } : Jvm.MethodName) prog_4_method_12_code (3 : Nat) (Option.some Jvm.ClassFile.FieldType.int)) ∈ lw_all := lw_g (lw_at lw_m5 122 rfl) rfl
theorem q1233 : (Jvm.Cond.methodLink "GingerRents$Borough" (227 : Nat) ({ cls := "GingerRents$Borough", name := "draw", desc := "(I)I" } : Jvm.MethodName)) ∈ lw_all := lw_g (lw_at lw_m5 123 rfl) rfl
theorem q1234 : (Jvm.Cond.instanceMethod ({ cls := "GingerRents$Borough", name := "draw", desc := "(I)I" } : Jvm.MethodName)) ∈ lw_all := lw_g (lw_at lw_m5 124 rfl) rfl
theorem q1235 : (Jvm.Cond.selects "GingerRents$Borough" ({ cls := "GingerRents$Borough", name := "draw", desc := "(I)I" } : Jvm.MethodName) ({ cls := "GingerRents$Borough", name := "draw", desc := "(I)I" } : Jvm.MethodName)) ∈ lw_all := lw_g (lw_at lw_m5 125 rfl) rfl
theorem q1236 : (Jvm.Cond.code ({ cls := "GingerRents$Borough", name := "draw", desc := "(I)I" } : Jvm.MethodName) prog_4_method_5_code (2 : Nat) (Option.some Jvm.ClassFile.FieldType.int)) ∈ lw_all := lw_g (lw_at lw_m5 126 rfl) rfl
theorem q1237 : (Jvm.Cond.constant "GingerRents$Borough" (112 : Nat) (1664525 : Int32)) ∈ lw_all := lw_g (lw_at lw_m5 127 rfl) rfl
theorem q1238 : (Jvm.Cond.constant "GingerRents$Borough" (113 : Nat) (1013904223 : Int32)) ∈ lw_all := lw_g (lw_at lw_m5 128 rfl) rfl
theorem q1239 : (Jvm.Cond.methodLink "GingerRents$Borough" (253 : Nat) ({ cls := "GingerRents$Borough", name := "isMelting", desc := "(I)V" } : Jvm.MethodName)) ∈ lw_all := lw_g (lw_at lw_m5 129 rfl) rfl
theorem q1240 : (Jvm.Cond.privateMethod ({ cls := "GingerRents$Borough", name := "isMelting", desc := "(I)V" } : Jvm.MethodName)) ∈ lw_tbl := lw_at lw_m5 130 rfl
theorem q1241 : (Jvm.Cond.instanceMethod ({ cls := "GingerRents$Borough", name := "isMelting", desc := "(I)V" } : Jvm.MethodName)) ∈ lw_all := lw_g (lw_at lw_m5 131 rfl) rfl
theorem q1242 : (Jvm.Cond.code ({ cls := "GingerRents$Borough", name := "isMelting", desc := "(I)V" } : Jvm.MethodName) prog_4_method_22_code (5 : Nat) (Option.none : Option Jvm.ClassFile.FieldType)) ∈ lw_all := lw_g (lw_at lw_m5 132 rfl) rfl
theorem q1243 : (Jvm.Cond.methodLink "GingerRents$Borough" (230 : Nat) ({ cls := "GingerRents$Borough", name := "melts", desc := "(LGingerRents$House;I)I" } : Jvm.MethodName)) ∈ lw_all := lw_g (lw_at lw_m5 133 rfl) rfl
theorem q1244 : (Jvm.Cond.instanceMethod ({ cls := "GingerRents$Borough", name := "melts", desc := "(LGingerRents$House;I)I" } : Jvm.MethodName)) ∈ lw_all := lw_g (lw_at lw_m5 134 rfl) rfl
theorem q1245 : (Jvm.Cond.selects "GingerRents$Borough" ({ cls := "GingerRents$Borough", name := "melts", desc := "(LGingerRents$House;I)I" } : Jvm.MethodName) ({ cls := "GingerRents$Borough", name := "melts", desc := "(LGingerRents$House;I)I" } : Jvm.MethodName)) ∈ lw_all := lw_g (lw_at lw_m5 135 rfl) rfl
theorem q1246 : (Jvm.Cond.code ({ cls := "GingerRents$Borough", name := "melts", desc := "(LGingerRents$House;I)I" } : Jvm.MethodName) prog_4_method_13_code (3 : Nat) (Option.some Jvm.ClassFile.FieldType.int)) ∈ lw_all := lw_g (lw_at lw_m5 136 rfl) rfl
theorem q1247 : (Jvm.Cond.methodLink "GingerRents$Borough" (233 : Nat) ({ cls := "java/lang/Math", name := "min", desc := "(II)I" } : Jvm.MethodName)) ∈ lw_all := lw_g (lw_at lw_m5 137 rfl) rfl
theorem q1248 : (Jvm.Cond.methodLink "GingerRents$Borough" (256 : Nat) ({ cls := "java/lang/Integer", name := "bitCount", desc := "(I)I" } : Jvm.MethodName)) ∈ lw_all := lw_g (lw_at lw_m5 138 rfl) rfl
theorem q1270 : (Jvm.Cond.instanceMethod ({ cls := "GingerRents$Borough", name := "thinks", desc := "(LGingerRents$Borough;)V" } : Jvm.MethodName)) ∈ lw_all := lw_g (lw_at lw_m5 160 rfl) rfl
theorem q1271 : (Jvm.Cond.selects "GingerRents$Borough" ({ cls := "GingerRents$Borough", name := "thinks", desc := "(LGingerRents$Borough;)V" } : Jvm.MethodName) ({ cls := "GingerRents$Borough", name := "thinks", desc := "(LGingerRents$Borough;)V" } : Jvm.MethodName)) ∈ lw_all := lw_g (lw_at lw_m5 161 rfl) rfl
theorem q1272 : (Jvm.Cond.code ({ cls := "GingerRents$Borough", name := "thinks", desc := "(LGingerRents$Borough;)V" } : Jvm.MethodName) prog_4_method_3_code (2 : Nat) (Option.none : Option Jvm.ClassFile.FieldType)) ∈ lw_all := lw_g (lw_at lw_m5 162 rfl) rfl
theorem q1273 : (Jvm.Cond.methodLink "GingerRents$Borough" (96 : Nat) ({ cls := "GingerRents$Borough", name := "moves", desc := "(LGingerRents$Borough;)V" } : Jvm.MethodName)) ∈ lw_all := lw_g (lw_at lw_m5 163 rfl) rfl
theorem q1467 : (Jvm.Cond.instanceMethod ({ cls := "GingerRents$Borough", name := "takes", desc := "(LGingerRents$Borough;)V" } : Jvm.MethodName)) ∈ lw_all := lw_g (lw_at lw_m6 117 rfl) rfl
theorem q1468 : (Jvm.Cond.selects "GingerRents$Borough" ({ cls := "GingerRents$Borough", name := "takes", desc := "(LGingerRents$Borough;)V" } : Jvm.MethodName) ({ cls := "GingerRents$Borough", name := "takes", desc := "(LGingerRents$Borough;)V" } : Jvm.MethodName)) ∈ lw_all := lw_g (lw_at lw_m6 118 rfl) rfl
theorem q1469 : (Jvm.Cond.code ({ cls := "GingerRents$Borough", name := "takes", desc := "(LGingerRents$Borough;)V" } : Jvm.MethodName) prog_4_method_4_code (4 : Nat) (Option.none : Option Jvm.ClassFile.FieldType)) ∈ lw_all := lw_g (lw_at lw_m6 119 rfl) rfl
theorem q1470 : (Jvm.Cond.methodLink "GingerRents$Borough" (106 : Nat) ({ cls := "GingerRents$Borough", name := "thinks", desc := "(LGingerRents$Borough;)V" } : Jvm.MethodName)) ∈ lw_all := lw_g (lw_at lw_m6 120 rfl) rfl
theorem q1471 : (Jvm.Cond.methodLink "GingerRents$Borough" (109 : Nat) ({ cls := "GingerRents$Rows", name := "takes", desc := "(LGingerRents$Rows;)V" } : Jvm.MethodName)) ∈ lw_all := lw_g (lw_at lw_m6 121 rfl) rfl
theorem q2259 : (Jvm.Cond.castable "GingerRents$Borough" "java/lang/Object") ∈ lw_tbl := lw_at lw_m9 189 rfl
theorem in_X1 : ∀ w ∈ wsX10, w ∈ lw_all := lw_in wsX10 [350, 352, 354, 356, 358, 360, 362, 364, 366, 368, 370, 372, 374, 376, 378, 380, 382, 384, 386, 388, 390, 392, 394, 396, 398, 400] (by decide +kernel) (by decide +kernel)

/-! GingerRents$Rows -/
set_option maxRecDepth 100000
def RX2 : String := "GingerRents$Rows"
def TX2 : u_T := fun k => match k with
  | 0 => ("GingerRents$Rows", "row", "[[I", true)
  | _ => ("GingerRents$Rows", "many", "I", false)
def tyX2 : Nat → FieldType := fun k => match k with
  | 0 => .array (.array .int)
  | _ => .int
abbrev wsX20 : List Cond := u_ws RX2 TX2 2
theorem nmX2 : ∀ a, a < 2 → ∀ b, b < 2 → a ≠ b → (TX2 a).2.1 ≠ (TX2 b).2.1 := by decide +kernel
theorem tyX2_ok : ∀ k, k < 2 → parseFieldDescriptor (TX2 k).2.2.1 = some (tyX2 k) := by decide +kernel
abbrev cX2_init : ByteArray := prog_18_method_1_code
def yX2_init : MethodName := ⟨RX2, "<init>", "(I)V"⟩
def dkwX2_init_0 : List UInt8 := [42, 183, 0, 3, 42, 27, 5, 197, 0, 9, 2, 181, 0, 11, 177]
abbrev dktX2_init_0 : List UInt8 := dkwX2_init_0 ++ []
theorem dksX2_init_0 : cX2_init.data.toList.drop 0 = dktX2_init_0 := by decide +kernel
theorem dX2_init_0 : decode cX2_init 0 = .ok (.aload_n 0, 1) := dk_42 (dk_at dksX2_init_0 0 rfl rfl)
theorem dX2_init_1 : decode cX2_init 1 = .ok (.invokespecial 3, 3) := dk_183 0 3 (dk_at dksX2_init_0 1 rfl rfl)
theorem dX2_init_4 : decode cX2_init 4 = .ok (.aload_n 0, 1) := dk_42 (dk_at dksX2_init_0 4 rfl rfl)
theorem dX2_init_5 : decode cX2_init 5 = .ok (.iload_n 1, 1) := dk_27 (dk_at dksX2_init_0 5 rfl rfl)
theorem dX2_init_6 : decode cX2_init 6 = .ok (.iconst 2, 1) := dk_5 (dk_at dksX2_init_0 6 rfl rfl)
theorem dX2_init_7 : decode cX2_init 7 = .ok (.multianewarray 9 2, 4) := by decide +kernel
theorem dX2_init_11 : decode cX2_init 11 = .ok (.putfield 11, 3) := dk_181 0 11 (dk_at dksX2_init_0 11 rfl rfl)
theorem dX2_init_14 : decode cX2_init 14 = .ok (.return_, 1) := dk_177 (dk_at dksX2_init_0 14 rfl rfl)
abbrev cX2_ends : ByteArray := prog_18_method_3_code
def yX2_ends : MethodName := ⟨RX2, "ends", "()I"⟩
def dkwX2_ends_0 : List UInt8 := [42, 3, 181, 0, 16, 3, 172]
abbrev dktX2_ends_0 : List UInt8 := dkwX2_ends_0 ++ []
theorem dksX2_ends_0 : cX2_ends.data.toList.drop 0 = dktX2_ends_0 := by decide +kernel
theorem dX2_ends_0 : decode cX2_ends 0 = .ok (.aload_n 0, 1) := dk_42 (dk_at dksX2_ends_0 0 rfl rfl)
theorem dX2_ends_1 : decode cX2_ends 1 = .ok (.iconst 0, 1) := dk_3 (dk_at dksX2_ends_0 1 rfl rfl)
theorem dX2_ends_2 : decode cX2_ends 2 = .ok (.putfield 16, 3) := dk_181 0 16 (dk_at dksX2_ends_0 2 rfl rfl)
theorem dX2_ends_5 : decode cX2_ends 5 = .ok (.iconst 0, 1) := dk_3 (dk_at dksX2_ends_0 5 rfl rfl)
theorem dX2_ends_6 : decode cX2_ends 6 = .ok (.ireturn, 1) := dk_172 (dk_at dksX2_ends_0 6 rfl rfl)
abbrev cX2_tells : ByteArray := prog_18_method_2_code
def yX2_tells : MethodName := ⟨RX2, "tells", "(II)I"⟩
def dkwX2_tells_2 : List UInt8 := [42, 180, 0, 16, 172]
abbrev dktX2_tells_2 : List UInt8 := dkwX2_tells_2 ++ []
def dkwX2_tells_1 : List UInt8 := [27, 79, 42, 180, 0, 11, 42, 180, 0, 16, 50, 4, 28, 79, 42, 89, 180, 0, 16, 4, 96, 181, 0, 16]
abbrev dktX2_tells_1 : List UInt8 := dkwX2_tells_1 ++ dktX2_tells_2
def dkwX2_tells_0 : List UInt8 := [42, 180, 0, 16, 42, 180, 0, 11, 190, 160, 0, 5, 2, 172, 42, 180, 0, 11, 42, 180, 0, 16, 50, 3]
abbrev dktX2_tells_0 : List UInt8 := dkwX2_tells_0 ++ dktX2_tells_1
theorem dksX2_tells_0 : cX2_tells.data.toList.drop 0 = dktX2_tells_0 := by decide +kernel
theorem dksX2_tells_1 : cX2_tells.data.toList.drop 24 = dktX2_tells_1 := dk_seg dksX2_tells_0 24 rfl rfl
theorem dksX2_tells_2 : cX2_tells.data.toList.drop 48 = dktX2_tells_2 := dk_seg dksX2_tells_1 24 rfl rfl
theorem dX2_tells_0 : decode cX2_tells 0 = .ok (.aload_n 0, 1) := dk_42 (dk_at dksX2_tells_0 0 rfl rfl)
theorem dX2_tells_1 : decode cX2_tells 1 = .ok (.getfield 16, 3) := dk_180 0 16 (dk_at dksX2_tells_0 1 rfl rfl)
theorem dX2_tells_4 : decode cX2_tells 4 = .ok (.aload_n 0, 1) := dk_42 (dk_at dksX2_tells_0 4 rfl rfl)
theorem dX2_tells_5 : decode cX2_tells 5 = .ok (.getfield 11, 3) := dk_180 0 11 (dk_at dksX2_tells_0 5 rfl rfl)
theorem dX2_tells_8 : decode cX2_tells 8 = .ok (.arraylength, 1) := dk_190 (dk_at dksX2_tells_0 8 rfl rfl)
theorem dX2_tells_9 : decode cX2_tells 9 = .ok (.if_icmp .ne 5, 3) := dk_160 0 5 (dk_at dksX2_tells_0 9 rfl rfl)
theorem dX2_tells_12 : decode cX2_tells 12 = .ok (.iconst (-1), 1) := dk_2 (dk_at dksX2_tells_0 12 rfl rfl)
theorem dX2_tells_13 : decode cX2_tells 13 = .ok (.ireturn, 1) := dk_172 (dk_at dksX2_tells_0 13 rfl rfl)
theorem dX2_tells_14 : decode cX2_tells 14 = .ok (.aload_n 0, 1) := dk_42 (dk_at dksX2_tells_0 14 rfl rfl)
theorem dX2_tells_15 : decode cX2_tells 15 = .ok (.getfield 11, 3) := dk_180 0 11 (dk_at dksX2_tells_0 15 rfl rfl)
theorem dX2_tells_18 : decode cX2_tells 18 = .ok (.aload_n 0, 1) := dk_42 (dk_at dksX2_tells_0 18 rfl rfl)
theorem dX2_tells_19 : decode cX2_tells 19 = .ok (.getfield 16, 3) := dk_180 0 16 (dk_at dksX2_tells_0 19 rfl rfl)
theorem dX2_tells_22 : decode cX2_tells 22 = .ok (.aaload, 1) := dk_50 (dk_at dksX2_tells_0 22 rfl rfl)
theorem dX2_tells_23 : decode cX2_tells 23 = .ok (.iconst 0, 1) := dk_3 (dk_at dksX2_tells_0 23 rfl rfl)
theorem dX2_tells_24 : decode cX2_tells 24 = .ok (.iload_n 1, 1) := dk_27 (dk_at dksX2_tells_1 0 rfl rfl)
theorem dX2_tells_25 : decode cX2_tells 25 = .ok (.iastore, 1) := dk_79 (dk_at dksX2_tells_1 1 rfl rfl)
theorem dX2_tells_26 : decode cX2_tells 26 = .ok (.aload_n 0, 1) := dk_42 (dk_at dksX2_tells_1 2 rfl rfl)
theorem dX2_tells_27 : decode cX2_tells 27 = .ok (.getfield 11, 3) := dk_180 0 11 (dk_at dksX2_tells_1 3 rfl rfl)
theorem dX2_tells_30 : decode cX2_tells 30 = .ok (.aload_n 0, 1) := dk_42 (dk_at dksX2_tells_1 6 rfl rfl)
theorem dX2_tells_31 : decode cX2_tells 31 = .ok (.getfield 16, 3) := dk_180 0 16 (dk_at dksX2_tells_1 7 rfl rfl)
theorem dX2_tells_34 : decode cX2_tells 34 = .ok (.aaload, 1) := dk_50 (dk_at dksX2_tells_1 10 rfl rfl)
theorem dX2_tells_35 : decode cX2_tells 35 = .ok (.iconst 1, 1) := dk_4 (dk_at dksX2_tells_1 11 rfl rfl)
theorem dX2_tells_36 : decode cX2_tells 36 = .ok (.iload_n 2, 1) := dk_28 (dk_at dksX2_tells_1 12 rfl rfl)
theorem dX2_tells_37 : decode cX2_tells 37 = .ok (.iastore, 1) := dk_79 (dk_at dksX2_tells_1 13 rfl rfl)
theorem dX2_tells_38 : decode cX2_tells 38 = .ok (.aload_n 0, 1) := dk_42 (dk_at dksX2_tells_1 14 rfl rfl)
theorem dX2_tells_39 : decode cX2_tells 39 = .ok (.dup, 1) := dk_89 (dk_at dksX2_tells_1 15 rfl rfl)
theorem dX2_tells_40 : decode cX2_tells 40 = .ok (.getfield 16, 3) := dk_180 0 16 (dk_at dksX2_tells_1 16 rfl rfl)
theorem dX2_tells_43 : decode cX2_tells 43 = .ok (.iconst 1, 1) := dk_4 (dk_at dksX2_tells_1 19 rfl rfl)
theorem dX2_tells_44 : decode cX2_tells 44 = .ok (.iadd, 1) := dk_96 (dk_at dksX2_tells_1 20 rfl rfl)
theorem dX2_tells_45 : decode cX2_tells 45 = .ok (.putfield 16, 3) := dk_181 0 16 (dk_at dksX2_tells_1 21 rfl rfl)
theorem dX2_tells_48 : decode cX2_tells 48 = .ok (.aload_n 0, 1) := dk_42 (dk_at dksX2_tells_2 0 rfl rfl)
theorem dX2_tells_49 : decode cX2_tells 49 = .ok (.getfield 16, 3) := dk_180 0 16 (dk_at dksX2_tells_2 1 rfl rfl)
theorem dX2_tells_52 : decode cX2_tells 52 = .ok (.ireturn, 1) := dk_172 (dk_at dksX2_tells_2 4 rfl rfl)
abbrev cX2_first : ByteArray := prog_18_method_4_code
def yX2_first : MethodName := ⟨RX2, "first", "(I)I"⟩
def dkwX2_first_0 : List UInt8 := [42, 180, 0, 11, 27, 50, 3, 46, 172]
abbrev dktX2_first_0 : List UInt8 := dkwX2_first_0 ++ []
theorem dksX2_first_0 : cX2_first.data.toList.drop 0 = dktX2_first_0 := by decide +kernel
theorem dX2_first_0 : decode cX2_first 0 = .ok (.aload_n 0, 1) := dk_42 (dk_at dksX2_first_0 0 rfl rfl)
theorem dX2_first_1 : decode cX2_first 1 = .ok (.getfield 11, 3) := dk_180 0 11 (dk_at dksX2_first_0 1 rfl rfl)
theorem dX2_first_4 : decode cX2_first 4 = .ok (.iload_n 1, 1) := dk_27 (dk_at dksX2_first_0 4 rfl rfl)
theorem dX2_first_5 : decode cX2_first 5 = .ok (.aaload, 1) := dk_50 (dk_at dksX2_first_0 5 rfl rfl)
theorem dX2_first_6 : decode cX2_first 6 = .ok (.iconst 0, 1) := dk_3 (dk_at dksX2_first_0 6 rfl rfl)
theorem dX2_first_7 : decode cX2_first 7 = .ok (.iaload, 1) := dk_46 (dk_at dksX2_first_0 7 rfl rfl)
theorem dX2_first_8 : decode cX2_first 8 = .ok (.ireturn, 1) := dk_172 (dk_at dksX2_first_0 8 rfl rfl)
abbrev cX2_second : ByteArray := prog_18_method_5_code
def yX2_second : MethodName := ⟨RX2, "second", "(I)I"⟩
def dkwX2_second_0 : List UInt8 := [42, 180, 0, 11, 27, 50, 4, 46, 172]
abbrev dktX2_second_0 : List UInt8 := dkwX2_second_0 ++ []
theorem dksX2_second_0 : cX2_second.data.toList.drop 0 = dktX2_second_0 := by decide +kernel
theorem dX2_second_0 : decode cX2_second 0 = .ok (.aload_n 0, 1) := dk_42 (dk_at dksX2_second_0 0 rfl rfl)
theorem dX2_second_1 : decode cX2_second 1 = .ok (.getfield 11, 3) := dk_180 0 11 (dk_at dksX2_second_0 1 rfl rfl)
theorem dX2_second_4 : decode cX2_second 4 = .ok (.iload_n 1, 1) := dk_27 (dk_at dksX2_second_0 4 rfl rfl)
theorem dX2_second_5 : decode cX2_second 5 = .ok (.aaload, 1) := dk_50 (dk_at dksX2_second_0 5 rfl rfl)
theorem dX2_second_6 : decode cX2_second 6 = .ok (.iconst 1, 1) := dk_4 (dk_at dksX2_second_0 6 rfl rfl)
theorem dX2_second_7 : decode cX2_second 7 = .ok (.iaload, 1) := dk_46 (dk_at dksX2_second_0 7 rfl rfl)
theorem dX2_second_8 : decode cX2_second 8 = .ok (.ireturn, 1) := dk_172 (dk_at dksX2_second_0 8 rfl rfl)
abbrev cX2_takes : ByteArray := prog_18_method_6_code
def yX2_takes : MethodName := ⟨RX2, "takes", "(LGingerRents$Rows;)V"⟩
def dkwX2_takes_2 : List UInt8 := [167, 255, 232, 132, 2, 1, 167, 255, 216, 177]
abbrev dktX2_takes_2 : List UInt8 := dkwX2_takes_2 ++ []
def dkwX2_takes_1 : List UInt8 := [162, 0, 25, 42, 180, 0, 11, 28, 50, 29, 43, 180, 0, 11, 28, 50, 29, 46, 79, 132, 3, 1]
abbrev dktX2_takes_1 : List UInt8 := dkwX2_takes_1 ++ dktX2_takes_2
def dkwX2_takes_0 : List UInt8 := [42, 43, 180, 0, 16, 181, 0, 16, 3, 61, 28, 42, 180, 0, 16, 162, 0, 38, 3, 62, 29, 5]
abbrev dktX2_takes_0 : List UInt8 := dkwX2_takes_0 ++ dktX2_takes_1
theorem dksX2_takes_0 : cX2_takes.data.toList.drop 0 = dktX2_takes_0 := by decide +kernel
theorem dksX2_takes_1 : cX2_takes.data.toList.drop 22 = dktX2_takes_1 := dk_seg dksX2_takes_0 22 rfl rfl
theorem dksX2_takes_2 : cX2_takes.data.toList.drop 44 = dktX2_takes_2 := dk_seg dksX2_takes_1 22 rfl rfl
theorem dX2_takes_0 : decode cX2_takes 0 = .ok (.aload_n 0, 1) := dk_42 (dk_at dksX2_takes_0 0 rfl rfl)
theorem dX2_takes_1 : decode cX2_takes 1 = .ok (.aload_n 1, 1) := dk_43 (dk_at dksX2_takes_0 1 rfl rfl)
theorem dX2_takes_2 : decode cX2_takes 2 = .ok (.getfield 16, 3) := dk_180 0 16 (dk_at dksX2_takes_0 2 rfl rfl)
theorem dX2_takes_5 : decode cX2_takes 5 = .ok (.putfield 16, 3) := dk_181 0 16 (dk_at dksX2_takes_0 5 rfl rfl)
theorem dX2_takes_8 : decode cX2_takes 8 = .ok (.iconst 0, 1) := dk_3 (dk_at dksX2_takes_0 8 rfl rfl)
theorem dX2_takes_9 : decode cX2_takes 9 = .ok (.istore_n 2, 1) := dk_61 (dk_at dksX2_takes_0 9 rfl rfl)
theorem dX2_takes_10 : decode cX2_takes 10 = .ok (.iload_n 2, 1) := dk_28 (dk_at dksX2_takes_0 10 rfl rfl)
theorem dX2_takes_11 : decode cX2_takes 11 = .ok (.aload_n 0, 1) := dk_42 (dk_at dksX2_takes_0 11 rfl rfl)
theorem dX2_takes_12 : decode cX2_takes 12 = .ok (.getfield 16, 3) := dk_180 0 16 (dk_at dksX2_takes_0 12 rfl rfl)
theorem dX2_takes_15 : decode cX2_takes 15 = .ok (.if_icmp .ge 38, 3) := dk_162 0 38 (dk_at dksX2_takes_0 15 rfl rfl)
theorem dX2_takes_18 : decode cX2_takes 18 = .ok (.iconst 0, 1) := dk_3 (dk_at dksX2_takes_0 18 rfl rfl)
theorem dX2_takes_19 : decode cX2_takes 19 = .ok (.istore_n 3, 1) := dk_62 (dk_at dksX2_takes_0 19 rfl rfl)
theorem dX2_takes_20 : decode cX2_takes 20 = .ok (.iload_n 3, 1) := dk_29 (dk_at dksX2_takes_0 20 rfl rfl)
theorem dX2_takes_21 : decode cX2_takes 21 = .ok (.iconst 2, 1) := dk_5 (dk_at dksX2_takes_0 21 rfl rfl)
theorem dX2_takes_22 : decode cX2_takes 22 = .ok (.if_icmp .ge 25, 3) := dk_162 0 25 (dk_at dksX2_takes_1 0 rfl rfl)
theorem dX2_takes_25 : decode cX2_takes 25 = .ok (.aload_n 0, 1) := dk_42 (dk_at dksX2_takes_1 3 rfl rfl)
theorem dX2_takes_26 : decode cX2_takes 26 = .ok (.getfield 11, 3) := dk_180 0 11 (dk_at dksX2_takes_1 4 rfl rfl)
theorem dX2_takes_29 : decode cX2_takes 29 = .ok (.iload_n 2, 1) := dk_28 (dk_at dksX2_takes_1 7 rfl rfl)
theorem dX2_takes_30 : decode cX2_takes 30 = .ok (.aaload, 1) := dk_50 (dk_at dksX2_takes_1 8 rfl rfl)
theorem dX2_takes_31 : decode cX2_takes 31 = .ok (.iload_n 3, 1) := dk_29 (dk_at dksX2_takes_1 9 rfl rfl)
theorem dX2_takes_32 : decode cX2_takes 32 = .ok (.aload_n 1, 1) := dk_43 (dk_at dksX2_takes_1 10 rfl rfl)
theorem dX2_takes_33 : decode cX2_takes 33 = .ok (.getfield 11, 3) := dk_180 0 11 (dk_at dksX2_takes_1 11 rfl rfl)
theorem dX2_takes_36 : decode cX2_takes 36 = .ok (.iload_n 2, 1) := dk_28 (dk_at dksX2_takes_1 14 rfl rfl)
theorem dX2_takes_37 : decode cX2_takes 37 = .ok (.aaload, 1) := dk_50 (dk_at dksX2_takes_1 15 rfl rfl)
theorem dX2_takes_38 : decode cX2_takes 38 = .ok (.iload_n 3, 1) := dk_29 (dk_at dksX2_takes_1 16 rfl rfl)
theorem dX2_takes_39 : decode cX2_takes 39 = .ok (.iaload, 1) := dk_46 (dk_at dksX2_takes_1 17 rfl rfl)
theorem dX2_takes_40 : decode cX2_takes 40 = .ok (.iastore, 1) := dk_79 (dk_at dksX2_takes_1 18 rfl rfl)
theorem dX2_takes_41 : decode cX2_takes 41 = .ok (.iinc 3 1, 3) := dk_132 3 1 (dk_at dksX2_takes_1 19 rfl rfl)
theorem dX2_takes_44 : decode cX2_takes 44 = .ok (.goto (-24), 3) := dk_167 255 232 (dk_at dksX2_takes_2 0 rfl rfl)
theorem dX2_takes_47 : decode cX2_takes 47 = .ok (.iinc 2 1, 3) := dk_132 2 1 (dk_at dksX2_takes_2 3 rfl rfl)
theorem dX2_takes_50 : decode cX2_takes 50 = .ok (.goto (-40), 3) := dk_167 255 216 (dk_at dksX2_takes_2 6 rfl rfl)
theorem dX2_takes_53 : decode cX2_takes 53 = .ok (.return_, 1) := dk_177 (dk_at dksX2_takes_2 9 rfl rfl)
theorem q153 : (Jvm.Cond.initialized "GingerRents$Rows") ∈ lw_all := lw_g (lw_at lw_m1 3 rfl) rfl
theorem q205 : (Jvm.Cond.instantiable "GingerRents$Rows" (2 : Nat)) ∈ lw_all := lw_g (lw_at lw_m1 55 rfl) rfl
theorem q207 : (Jvm.Cond.instanceMethod ({ cls := "GingerRents$Rows", name := "<init>", desc := "(I)V" } : Jvm.MethodName)) ∈ lw_all := lw_g (lw_at lw_m1 57 rfl) rfl
theorem q208 : (Jvm.Cond.code ({ cls := "GingerRents$Rows", name := "<init>", desc := "(I)V" } : Jvm.MethodName) prog_18_method_1_code (2 : Nat) (Option.none : Option Jvm.ClassFile.FieldType)) ∈ lw_all := lw_g (lw_at lw_m1 58 rfl) rfl
theorem q209 : (Jvm.Cond.methodLink "GingerRents$Rows" (3 : Nat) ({ cls := "java/lang/Object", name := "<init>", desc := "()V" } : Jvm.MethodName)) ∈ lw_all := lw_g (lw_at lw_m1 59 rfl) rfl
theorem q210 : (Jvm.Cond.classLink "GingerRents$Rows" (9 : Nat) "[[I") ∈ lw_all := lw_g (lw_at lw_m1 60 rfl) rfl
theorem q211 : (Jvm.Cond.fieldLink "GingerRents$Rows" (11 : Nat) "GingerRents$Rows" "row" "[[I") ∈ lw_all := lw_g (lw_at lw_m1 61 rfl) rfl
theorem q212 : (Jvm.Cond.fieldLink "GingerRents$Rows" (16 : Nat) "GingerRents$Rows" "many" "I") ∈ lw_all := lw_g (lw_at lw_m1 62 rfl) rfl
theorem q214 : (Jvm.Cond.laysFinal "GingerRents$Rows" "GingerRents$Rows" "row" "[[I") ∈ lw_all := lw_g (lw_at lw_m1 64 rfl) rfl
theorem q215 : (Jvm.Cond.soleField "GingerRents$Rows" "row") ∈ lw_all := lw_g (lw_at lw_m1 65 rfl) rfl
theorem q216 : (Jvm.Cond.lays "GingerRents$Rows" "GingerRents$Rows" "many" "I") ∈ lw_all := lw_g (lw_at lw_m1 66 rfl) rfl
theorem q217 : (Jvm.Cond.soleField "GingerRents$Rows" "many") ∈ lw_all := lw_g (lw_at lw_m1 67 rfl) rfl
theorem q218 : (Jvm.Cond.superclass "GingerRents$Rows" "java/lang/Object") ∈ lw_all := lw_g (lw_at lw_m1 68 rfl) rfl
theorem q866 : (Jvm.Cond.selects "GingerRents$Rows" ({ cls := "java/lang/Object", name := "getClass", desc := "()Ljava/lang/Class;" } : Jvm.MethodName) ({ cls := "java/lang/Object", name := "getClass", desc := "()Ljava/lang/Class;" } : Jvm.MethodName)) ∈ lw_all := lw_g (lw_at lw_m3 236 rfl) rfl
theorem q1311 : (Jvm.Cond.instanceMethod ({ cls := "GingerRents$Rows", name := "ends", desc := "()I" } : Jvm.MethodName)) ∈ lw_all := lw_g (lw_at lw_m5 201 rfl) rfl
theorem q1312 : (Jvm.Cond.selects "GingerRents$Rows" ({ cls := "GingerRents$Rows", name := "ends", desc := "()I" } : Jvm.MethodName) ({ cls := "GingerRents$Rows", name := "ends", desc := "()I" } : Jvm.MethodName)) ∈ lw_all := lw_g (lw_at lw_m5 202 rfl) rfl
theorem q1313 : (Jvm.Cond.code ({ cls := "GingerRents$Rows", name := "ends", desc := "()I" } : Jvm.MethodName) prog_18_method_3_code (1 : Nat) (Option.some Jvm.ClassFile.FieldType.int)) ∈ lw_all := lw_g (lw_at lw_m5 203 rfl) rfl
theorem q1315 : (Jvm.Cond.instanceMethod ({ cls := "GingerRents$Rows", name := "tells", desc := "(II)I" } : Jvm.MethodName)) ∈ lw_all := lw_g (lw_at lw_m5 205 rfl) rfl
theorem q1316 : (Jvm.Cond.selects "GingerRents$Rows" ({ cls := "GingerRents$Rows", name := "tells", desc := "(II)I" } : Jvm.MethodName) ({ cls := "GingerRents$Rows", name := "tells", desc := "(II)I" } : Jvm.MethodName)) ∈ lw_all := lw_g (lw_at lw_m5 206 rfl) rfl
theorem q1317 : (Jvm.Cond.code ({ cls := "GingerRents$Rows", name := "tells", desc := "(II)I" } : Jvm.MethodName) prog_18_method_2_code (3 : Nat) (Option.some Jvm.ClassFile.FieldType.int)) ∈ lw_all := lw_g (lw_at lw_m5 207 rfl) rfl
theorem q1331 : (Jvm.Cond.instanceMethod ({ cls := "GingerRents$Rows", name := "first", desc := "(I)I" } : Jvm.MethodName)) ∈ lw_all := lw_g (lw_at lw_m5 221 rfl) rfl
theorem q1332 : (Jvm.Cond.selects "GingerRents$Rows" ({ cls := "GingerRents$Rows", name := "first", desc := "(I)I" } : Jvm.MethodName) ({ cls := "GingerRents$Rows", name := "first", desc := "(I)I" } : Jvm.MethodName)) ∈ lw_all := lw_g (lw_at lw_m5 222 rfl) rfl
theorem q1333 : (Jvm.Cond.code ({ cls := "GingerRents$Rows", name := "first", desc := "(I)I" } : Jvm.MethodName) prog_18_method_4_code (2 : Nat) (Option.some Jvm.ClassFile.FieldType.int)) ∈ lw_all := lw_g (lw_at lw_m5 223 rfl) rfl
theorem q1381 : (Jvm.Cond.instanceMethod ({ cls := "GingerRents$Rows", name := "second", desc := "(I)I" } : Jvm.MethodName)) ∈ lw_all := lw_g (lw_at lw_m6 31 rfl) rfl
theorem q1382 : (Jvm.Cond.selects "GingerRents$Rows" ({ cls := "GingerRents$Rows", name := "second", desc := "(I)I" } : Jvm.MethodName) ({ cls := "GingerRents$Rows", name := "second", desc := "(I)I" } : Jvm.MethodName)) ∈ lw_all := lw_g (lw_at lw_m6 32 rfl) rfl
theorem q1383 : (Jvm.Cond.code ({ cls := "GingerRents$Rows", name := "second", desc := "(I)I" } : Jvm.MethodName) prog_18_method_5_code (2 : Nat) (Option.some Jvm.ClassFile.FieldType.int)) ∈ lw_all := lw_g (lw_at lw_m6 33 rfl) rfl
theorem q1472 : (Jvm.Cond.instanceMethod ({ cls := "GingerRents$Rows", name := "takes", desc := "(LGingerRents$Rows;)V" } : Jvm.MethodName)) ∈ lw_all := lw_g (lw_at lw_m6 122 rfl) rfl
theorem q1473 : (Jvm.Cond.selects "GingerRents$Rows" ({ cls := "GingerRents$Rows", name := "takes", desc := "(LGingerRents$Rows;)V" } : Jvm.MethodName) ({ cls := "GingerRents$Rows", name := "takes", desc := "(LGingerRents$Rows;)V" } : Jvm.MethodName)) ∈ lw_all := lw_g (lw_at lw_m6 123 rfl) rfl
theorem q1474 : (Jvm.Cond.code ({ cls := "GingerRents$Rows", name := "takes", desc := "(LGingerRents$Rows;)V" } : Jvm.MethodName) prog_18_method_6_code (4 : Nat) (Option.none : Option Jvm.ClassFile.FieldType)) ∈ lw_all := lw_g (lw_at lw_m6 124 rfl) rfl
theorem q2261 : (Jvm.Cond.castable "GingerRents$Rows" "java/lang/Object") ∈ lw_tbl := lw_at lw_m9 191 rfl
theorem in_X2 : ∀ w ∈ wsX20, w ∈ lw_all := lw_in wsX20 [214, 216] (by decide +kernel) (by decide +kernel)

/-! GingerRents$House -/
set_option maxRecDepth 100000
def RX3 : String := "GingerRents$House"
def TX3 : u_T := fun k => match k with
  | 0 => ("GingerRents$House", "wall", "[I", true)
  | 1 => ("GingerRents$House", "almonds", "I", false)
  | 2 => ("GingerRents$House", "teeth", "I", false)
  | 3 => ("GingerRents$House", "hard", "I", false)
  | 4 => ("GingerRents$House", "icing", "I", false)
  | 5 => ("GingerRents$House", "lodgers", "I", false)
  | 6 => ("GingerRents$House", "age", "I", false)
  | _ => ("GingerRents$House", "hasDoor", "Z", false)
def tyX3 : Nat → FieldType := fun k => match k with
  | 0 => .array .int
  | 1 => .int
  | 2 => .int
  | 3 => .int
  | 4 => .int
  | 5 => .int
  | 6 => .int
  | _ => .boolean
abbrev wsX30 : List Cond := u_ws RX3 TX3 8
theorem nmX3 : ∀ a, a < 8 → ∀ b, b < 8 → a ≠ b → (TX3 a).2.1 ≠ (TX3 b).2.1 := by decide +kernel
theorem tyX3_ok : ∀ k, k < 8 → parseFieldDescriptor (TX3 k).2.2.1 = some (tyX3 k) := by decide +kernel
abbrev cX3_init : ByteArray := prog_9_method_1_code
def yX3_init : MethodName := ⟨RX3, "<init>", "()V"⟩
def dkwX3_init_0 : List UInt8 := [42, 183, 0, 3, 42, 7, 188, 10, 181, 0, 9, 177]
abbrev dktX3_init_0 : List UInt8 := dkwX3_init_0 ++ []
theorem dksX3_init_0 : cX3_init.data.toList.drop 0 = dktX3_init_0 := by decide +kernel
theorem dX3_init_0 : decode cX3_init 0 = .ok (.aload_n 0, 1) := dk_42 (dk_at dksX3_init_0 0 rfl rfl)
theorem dX3_init_1 : decode cX3_init 1 = .ok (.invokespecial 3, 3) := dk_183 0 3 (dk_at dksX3_init_0 1 rfl rfl)
theorem dX3_init_4 : decode cX3_init 4 = .ok (.aload_n 0, 1) := dk_42 (dk_at dksX3_init_0 4 rfl rfl)
theorem dX3_init_5 : decode cX3_init 5 = .ok (.iconst 4, 1) := dk_7 (dk_at dksX3_init_0 5 rfl rfl)
theorem dX3_init_6 : decode cX3_init 6 = .ok (.newarray .int, 2) := dk_188_10 (dk_at dksX3_init_0 6 rfl rfl)
theorem dX3_init_8 : decode cX3_init 8 = .ok (.putfield 9, 3) := dk_181 0 9 (dk_at dksX3_init_0 8 rfl rfl)
theorem dX3_init_11 : decode cX3_init 11 = .ok (.return_, 1) := dk_177 (dk_at dksX3_init_0 11 rfl rfl)
abbrev cX3_takes : ByteArray := prog_9_method_3_code
def yX3_takes : MethodName := ⟨RX3, "takes", "(LGingerRents$House;)V"⟩
def dkwX3_takes_3 : List UInt8 := [181, 0, 31, 42, 43, 180, 0, 34, 181, 0, 34, 177]
abbrev dktX3_takes_3 : List UInt8 := dkwX3_takes_3 ++ []
def dkwX3_takes_2 : List UInt8 := [181, 0, 22, 42, 43, 180, 0, 25, 181, 0, 25, 42, 43, 180, 0, 28, 181, 0, 28, 42, 43, 180, 0, 31]
abbrev dktX3_takes_2 : List UInt8 := dkwX3_takes_2 ++ dktX3_takes_3
def dkwX3_takes_1 : List UInt8 := [167, 255, 236, 42, 43, 180, 0, 15, 181, 0, 15, 42, 43, 180, 0, 19, 181, 0, 19, 42, 43, 180, 0, 22]
abbrev dktX3_takes_1 : List UInt8 := dkwX3_takes_1 ++ dktX3_takes_2
def dkwX3_takes_0 : List UInt8 := [3, 61, 28, 7, 162, 0, 21, 42, 180, 0, 9, 28, 43, 180, 0, 9, 28, 46, 79, 132, 2, 1]
abbrev dktX3_takes_0 : List UInt8 := dkwX3_takes_0 ++ dktX3_takes_1
theorem dksX3_takes_0 : cX3_takes.data.toList.drop 0 = dktX3_takes_0 := by decide +kernel
theorem dksX3_takes_1 : cX3_takes.data.toList.drop 22 = dktX3_takes_1 := dk_seg dksX3_takes_0 22 rfl rfl
theorem dksX3_takes_2 : cX3_takes.data.toList.drop 46 = dktX3_takes_2 := dk_seg dksX3_takes_1 24 rfl rfl
theorem dksX3_takes_3 : cX3_takes.data.toList.drop 70 = dktX3_takes_3 := dk_seg dksX3_takes_2 24 rfl rfl
theorem dX3_takes_0 : decode cX3_takes 0 = .ok (.iconst 0, 1) := dk_3 (dk_at dksX3_takes_0 0 rfl rfl)
theorem dX3_takes_1 : decode cX3_takes 1 = .ok (.istore_n 2, 1) := dk_61 (dk_at dksX3_takes_0 1 rfl rfl)
theorem dX3_takes_2 : decode cX3_takes 2 = .ok (.iload_n 2, 1) := dk_28 (dk_at dksX3_takes_0 2 rfl rfl)
theorem dX3_takes_3 : decode cX3_takes 3 = .ok (.iconst 4, 1) := dk_7 (dk_at dksX3_takes_0 3 rfl rfl)
theorem dX3_takes_4 : decode cX3_takes 4 = .ok (.if_icmp .ge 21, 3) := dk_162 0 21 (dk_at dksX3_takes_0 4 rfl rfl)
theorem dX3_takes_7 : decode cX3_takes 7 = .ok (.aload_n 0, 1) := dk_42 (dk_at dksX3_takes_0 7 rfl rfl)
theorem dX3_takes_8 : decode cX3_takes 8 = .ok (.getfield 9, 3) := dk_180 0 9 (dk_at dksX3_takes_0 8 rfl rfl)
theorem dX3_takes_11 : decode cX3_takes 11 = .ok (.iload_n 2, 1) := dk_28 (dk_at dksX3_takes_0 11 rfl rfl)
theorem dX3_takes_12 : decode cX3_takes 12 = .ok (.aload_n 1, 1) := dk_43 (dk_at dksX3_takes_0 12 rfl rfl)
theorem dX3_takes_13 : decode cX3_takes 13 = .ok (.getfield 9, 3) := dk_180 0 9 (dk_at dksX3_takes_0 13 rfl rfl)
theorem dX3_takes_16 : decode cX3_takes 16 = .ok (.iload_n 2, 1) := dk_28 (dk_at dksX3_takes_0 16 rfl rfl)
theorem dX3_takes_17 : decode cX3_takes 17 = .ok (.iaload, 1) := dk_46 (dk_at dksX3_takes_0 17 rfl rfl)
theorem dX3_takes_18 : decode cX3_takes 18 = .ok (.iastore, 1) := dk_79 (dk_at dksX3_takes_0 18 rfl rfl)
theorem dX3_takes_19 : decode cX3_takes 19 = .ok (.iinc 2 1, 3) := dk_132 2 1 (dk_at dksX3_takes_0 19 rfl rfl)
theorem dX3_takes_22 : decode cX3_takes 22 = .ok (.goto (-20), 3) := dk_167 255 236 (dk_at dksX3_takes_1 0 rfl rfl)
theorem dX3_takes_25 : decode cX3_takes 25 = .ok (.aload_n 0, 1) := dk_42 (dk_at dksX3_takes_1 3 rfl rfl)
theorem dX3_takes_26 : decode cX3_takes 26 = .ok (.aload_n 1, 1) := dk_43 (dk_at dksX3_takes_1 4 rfl rfl)
theorem dX3_takes_27 : decode cX3_takes 27 = .ok (.getfield 15, 3) := dk_180 0 15 (dk_at dksX3_takes_1 5 rfl rfl)
theorem dX3_takes_30 : decode cX3_takes 30 = .ok (.putfield 15, 3) := dk_181 0 15 (dk_at dksX3_takes_1 8 rfl rfl)
theorem dX3_takes_33 : decode cX3_takes 33 = .ok (.aload_n 0, 1) := dk_42 (dk_at dksX3_takes_1 11 rfl rfl)
theorem dX3_takes_34 : decode cX3_takes 34 = .ok (.aload_n 1, 1) := dk_43 (dk_at dksX3_takes_1 12 rfl rfl)
theorem dX3_takes_35 : decode cX3_takes 35 = .ok (.getfield 19, 3) := dk_180 0 19 (dk_at dksX3_takes_1 13 rfl rfl)
theorem dX3_takes_38 : decode cX3_takes 38 = .ok (.putfield 19, 3) := dk_181 0 19 (dk_at dksX3_takes_1 16 rfl rfl)
theorem dX3_takes_41 : decode cX3_takes 41 = .ok (.aload_n 0, 1) := dk_42 (dk_at dksX3_takes_1 19 rfl rfl)
theorem dX3_takes_42 : decode cX3_takes 42 = .ok (.aload_n 1, 1) := dk_43 (dk_at dksX3_takes_1 20 rfl rfl)
theorem dX3_takes_43 : decode cX3_takes 43 = .ok (.getfield 22, 3) := dk_180 0 22 (dk_at dksX3_takes_1 21 rfl rfl)
theorem dX3_takes_46 : decode cX3_takes 46 = .ok (.putfield 22, 3) := dk_181 0 22 (dk_at dksX3_takes_2 0 rfl rfl)
theorem dX3_takes_49 : decode cX3_takes 49 = .ok (.aload_n 0, 1) := dk_42 (dk_at dksX3_takes_2 3 rfl rfl)
theorem dX3_takes_50 : decode cX3_takes 50 = .ok (.aload_n 1, 1) := dk_43 (dk_at dksX3_takes_2 4 rfl rfl)
theorem dX3_takes_51 : decode cX3_takes 51 = .ok (.getfield 25, 3) := dk_180 0 25 (dk_at dksX3_takes_2 5 rfl rfl)
theorem dX3_takes_54 : decode cX3_takes 54 = .ok (.putfield 25, 3) := dk_181 0 25 (dk_at dksX3_takes_2 8 rfl rfl)
theorem dX3_takes_57 : decode cX3_takes 57 = .ok (.aload_n 0, 1) := dk_42 (dk_at dksX3_takes_2 11 rfl rfl)
theorem dX3_takes_58 : decode cX3_takes 58 = .ok (.aload_n 1, 1) := dk_43 (dk_at dksX3_takes_2 12 rfl rfl)
theorem dX3_takes_59 : decode cX3_takes 59 = .ok (.getfield 28, 3) := dk_180 0 28 (dk_at dksX3_takes_2 13 rfl rfl)
theorem dX3_takes_62 : decode cX3_takes 62 = .ok (.putfield 28, 3) := dk_181 0 28 (dk_at dksX3_takes_2 16 rfl rfl)
theorem dX3_takes_65 : decode cX3_takes 65 = .ok (.aload_n 0, 1) := dk_42 (dk_at dksX3_takes_2 19 rfl rfl)
theorem dX3_takes_66 : decode cX3_takes 66 = .ok (.aload_n 1, 1) := dk_43 (dk_at dksX3_takes_2 20 rfl rfl)
theorem dX3_takes_67 : decode cX3_takes 67 = .ok (.getfield 31, 3) := dk_180 0 31 (dk_at dksX3_takes_2 21 rfl rfl)
theorem dX3_takes_70 : decode cX3_takes 70 = .ok (.putfield 31, 3) := dk_181 0 31 (dk_at dksX3_takes_3 0 rfl rfl)
theorem dX3_takes_73 : decode cX3_takes 73 = .ok (.aload_n 0, 1) := dk_42 (dk_at dksX3_takes_3 3 rfl rfl)
theorem dX3_takes_74 : decode cX3_takes 74 = .ok (.aload_n 1, 1) := dk_43 (dk_at dksX3_takes_3 4 rfl rfl)
theorem dX3_takes_75 : decode cX3_takes 75 = .ok (.getfield 34, 3) := dk_180 0 34 (dk_at dksX3_takes_3 5 rfl rfl)
theorem dX3_takes_78 : decode cX3_takes 78 = .ok (.putfield 34, 3) := dk_181 0 34 (dk_at dksX3_takes_3 8 rfl rfl)
theorem dX3_takes_81 : decode cX3_takes 81 = .ok (.return_, 1) := dk_177 (dk_at dksX3_takes_3 11 rfl rfl)
abbrev cX3_begins : ByteArray := prog_9_method_2_code
def yX3_begins : MethodName := ⟨RX3, "begins", "(III)V"⟩
def dkwX3_begins_2 : List UInt8 := [42, 3, 181, 0, 31, 42, 3, 181, 0, 34, 177]
abbrev dktX3_begins_2 : List UInt8 := dkwX3_begins_2 ++ []
def dkwX3_begins_1 : List UInt8 := [28, 181, 0, 15, 42, 29, 181, 0, 19, 42, 3, 181, 0, 22, 42, 3, 181, 0, 25, 42, 4, 181, 0, 28]
abbrev dktX3_begins_1 : List UInt8 := dkwX3_begins_1 ++ dktX3_begins_2
def dkwX3_begins_0 : List UInt8 := [3, 54, 4, 21, 4, 7, 162, 0, 17, 42, 180, 0, 9, 21, 4, 27, 79, 132, 4, 1, 167, 255, 239, 42]
abbrev dktX3_begins_0 : List UInt8 := dkwX3_begins_0 ++ dktX3_begins_1
theorem dksX3_begins_0 : cX3_begins.data.toList.drop 0 = dktX3_begins_0 := by decide +kernel
theorem dksX3_begins_1 : cX3_begins.data.toList.drop 24 = dktX3_begins_1 := dk_seg dksX3_begins_0 24 rfl rfl
theorem dksX3_begins_2 : cX3_begins.data.toList.drop 48 = dktX3_begins_2 := dk_seg dksX3_begins_1 24 rfl rfl
theorem dX3_begins_0 : decode cX3_begins 0 = .ok (.iconst 0, 1) := dk_3 (dk_at dksX3_begins_0 0 rfl rfl)
theorem dX3_begins_1 : decode cX3_begins 1 = .ok (.istore 4, 2) := dk_54 4 (dk_at dksX3_begins_0 1 rfl rfl)
theorem dX3_begins_3 : decode cX3_begins 3 = .ok (.iload 4, 2) := dk_21 4 (dk_at dksX3_begins_0 3 rfl rfl)
theorem dX3_begins_5 : decode cX3_begins 5 = .ok (.iconst 4, 1) := dk_7 (dk_at dksX3_begins_0 5 rfl rfl)
theorem dX3_begins_6 : decode cX3_begins 6 = .ok (.if_icmp .ge 17, 3) := dk_162 0 17 (dk_at dksX3_begins_0 6 rfl rfl)
theorem dX3_begins_9 : decode cX3_begins 9 = .ok (.aload_n 0, 1) := dk_42 (dk_at dksX3_begins_0 9 rfl rfl)
theorem dX3_begins_10 : decode cX3_begins 10 = .ok (.getfield 9, 3) := dk_180 0 9 (dk_at dksX3_begins_0 10 rfl rfl)
theorem dX3_begins_13 : decode cX3_begins 13 = .ok (.iload 4, 2) := dk_21 4 (dk_at dksX3_begins_0 13 rfl rfl)
theorem dX3_begins_15 : decode cX3_begins 15 = .ok (.iload_n 1, 1) := dk_27 (dk_at dksX3_begins_0 15 rfl rfl)
theorem dX3_begins_16 : decode cX3_begins 16 = .ok (.iastore, 1) := dk_79 (dk_at dksX3_begins_0 16 rfl rfl)
theorem dX3_begins_17 : decode cX3_begins 17 = .ok (.iinc 4 1, 3) := dk_132 4 1 (dk_at dksX3_begins_0 17 rfl rfl)
theorem dX3_begins_20 : decode cX3_begins 20 = .ok (.goto (-17), 3) := dk_167 255 239 (dk_at dksX3_begins_0 20 rfl rfl)
theorem dX3_begins_23 : decode cX3_begins 23 = .ok (.aload_n 0, 1) := dk_42 (dk_at dksX3_begins_0 23 rfl rfl)
theorem dX3_begins_24 : decode cX3_begins 24 = .ok (.iload_n 2, 1) := dk_28 (dk_at dksX3_begins_1 0 rfl rfl)
theorem dX3_begins_25 : decode cX3_begins 25 = .ok (.putfield 15, 3) := dk_181 0 15 (dk_at dksX3_begins_1 1 rfl rfl)
theorem dX3_begins_28 : decode cX3_begins 28 = .ok (.aload_n 0, 1) := dk_42 (dk_at dksX3_begins_1 4 rfl rfl)
theorem dX3_begins_29 : decode cX3_begins 29 = .ok (.iload_n 3, 1) := dk_29 (dk_at dksX3_begins_1 5 rfl rfl)
theorem dX3_begins_30 : decode cX3_begins 30 = .ok (.putfield 19, 3) := dk_181 0 19 (dk_at dksX3_begins_1 6 rfl rfl)
theorem dX3_begins_33 : decode cX3_begins 33 = .ok (.aload_n 0, 1) := dk_42 (dk_at dksX3_begins_1 9 rfl rfl)
theorem dX3_begins_34 : decode cX3_begins 34 = .ok (.iconst 0, 1) := dk_3 (dk_at dksX3_begins_1 10 rfl rfl)
theorem dX3_begins_35 : decode cX3_begins 35 = .ok (.putfield 22, 3) := dk_181 0 22 (dk_at dksX3_begins_1 11 rfl rfl)
theorem dX3_begins_38 : decode cX3_begins 38 = .ok (.aload_n 0, 1) := dk_42 (dk_at dksX3_begins_1 14 rfl rfl)
theorem dX3_begins_39 : decode cX3_begins 39 = .ok (.iconst 0, 1) := dk_3 (dk_at dksX3_begins_1 15 rfl rfl)
theorem dX3_begins_40 : decode cX3_begins 40 = .ok (.putfield 25, 3) := dk_181 0 25 (dk_at dksX3_begins_1 16 rfl rfl)
theorem dX3_begins_43 : decode cX3_begins 43 = .ok (.aload_n 0, 1) := dk_42 (dk_at dksX3_begins_1 19 rfl rfl)
theorem dX3_begins_44 : decode cX3_begins 44 = .ok (.iconst 1, 1) := dk_4 (dk_at dksX3_begins_1 20 rfl rfl)
theorem dX3_begins_45 : decode cX3_begins 45 = .ok (.putfield 28, 3) := dk_181 0 28 (dk_at dksX3_begins_1 21 rfl rfl)
theorem dX3_begins_48 : decode cX3_begins 48 = .ok (.aload_n 0, 1) := dk_42 (dk_at dksX3_begins_2 0 rfl rfl)
theorem dX3_begins_49 : decode cX3_begins 49 = .ok (.iconst 0, 1) := dk_3 (dk_at dksX3_begins_2 1 rfl rfl)
theorem dX3_begins_50 : decode cX3_begins 50 = .ok (.putfield 31, 3) := dk_181 0 31 (dk_at dksX3_begins_2 2 rfl rfl)
theorem dX3_begins_53 : decode cX3_begins 53 = .ok (.aload_n 0, 1) := dk_42 (dk_at dksX3_begins_2 5 rfl rfl)
theorem dX3_begins_54 : decode cX3_begins 54 = .ok (.iconst 0, 1) := dk_3 (dk_at dksX3_begins_2 6 rfl rfl)
theorem dX3_begins_55 : decode cX3_begins 55 = .ok (.putfield 34, 3) := dk_181 0 34 (dk_at dksX3_begins_2 7 rfl rfl)
theorem dX3_begins_58 : decode cX3_begins 58 = .ok (.return_, 1) := dk_177 (dk_at dksX3_begins_2 10 rfl rfl)
abbrev cX3_stands : ByteArray := prog_9_method_5_code
def yX3_stands : MethodName := ⟨RX3, "stands", "()Z"⟩
def dkwX3_stands_0 : List UInt8 := [42, 182, 0, 38, 158, 0, 7, 4, 167, 0, 4, 3, 172]
abbrev dktX3_stands_0 : List UInt8 := dkwX3_stands_0 ++ []
theorem dksX3_stands_0 : cX3_stands.data.toList.drop 0 = dktX3_stands_0 := by decide +kernel
theorem dX3_stands_0 : decode cX3_stands 0 = .ok (.aload_n 0, 1) := dk_42 (dk_at dksX3_stands_0 0 rfl rfl)
theorem dX3_stands_1 : decode cX3_stands 1 = .ok (.invokevirtual 38, 3) := dk_182 0 38 (dk_at dksX3_stands_0 1 rfl rfl)
theorem dX3_stands_4 : decode cX3_stands 4 = .ok (.ifCond .le 7, 3) := dk_158 0 7 (dk_at dksX3_stands_0 4 rfl rfl)
theorem dX3_stands_7 : decode cX3_stands 7 = .ok (.iconst 1, 1) := dk_4 (dk_at dksX3_stands_0 7 rfl rfl)
theorem dX3_stands_8 : decode cX3_stands 8 = .ok (.goto 4, 3) := dk_167 0 4 (dk_at dksX3_stands_0 8 rfl rfl)
theorem dX3_stands_11 : decode cX3_stands 11 = .ok (.iconst 0, 1) := dk_3 (dk_at dksX3_stands_0 11 rfl rfl)
theorem dX3_stands_12 : decode cX3_stands 12 = .ok (.ireturn, 1) := dk_172 (dk_at dksX3_stands_0 12 rfl rfl)
abbrev cX3_sum : ByteArray := prog_9_method_4_code
def yX3_sum : MethodName := ⟨RX3, "sum", "()I"⟩
def dkwX3_sum_1 : List UInt8 := [54, 5, 27, 21, 5, 96, 60, 132, 4, 1, 167, 255, 236, 27, 172]
abbrev dktX3_sum_1 : List UInt8 := dkwX3_sum_1 ++ []
def dkwX3_sum_0 : List UInt8 := [3, 60, 42, 180, 0, 9, 77, 44, 190, 62, 3, 54, 4, 21, 4, 29, 162, 0, 20, 44, 21, 4, 46]
abbrev dktX3_sum_0 : List UInt8 := dkwX3_sum_0 ++ dktX3_sum_1
theorem dksX3_sum_0 : cX3_sum.data.toList.drop 0 = dktX3_sum_0 := by decide +kernel
theorem dksX3_sum_1 : cX3_sum.data.toList.drop 23 = dktX3_sum_1 := dk_seg dksX3_sum_0 23 rfl rfl
theorem dX3_sum_0 : decode cX3_sum 0 = .ok (.iconst 0, 1) := dk_3 (dk_at dksX3_sum_0 0 rfl rfl)
theorem dX3_sum_1 : decode cX3_sum 1 = .ok (.istore_n 1, 1) := dk_60 (dk_at dksX3_sum_0 1 rfl rfl)
theorem dX3_sum_2 : decode cX3_sum 2 = .ok (.aload_n 0, 1) := dk_42 (dk_at dksX3_sum_0 2 rfl rfl)
theorem dX3_sum_3 : decode cX3_sum 3 = .ok (.getfield 9, 3) := dk_180 0 9 (dk_at dksX3_sum_0 3 rfl rfl)
theorem dX3_sum_6 : decode cX3_sum 6 = .ok (.astore_n 2, 1) := dk_77 (dk_at dksX3_sum_0 6 rfl rfl)
theorem dX3_sum_7 : decode cX3_sum 7 = .ok (.aload_n 2, 1) := dk_44 (dk_at dksX3_sum_0 7 rfl rfl)
theorem dX3_sum_8 : decode cX3_sum 8 = .ok (.arraylength, 1) := dk_190 (dk_at dksX3_sum_0 8 rfl rfl)
theorem dX3_sum_9 : decode cX3_sum 9 = .ok (.istore_n 3, 1) := dk_62 (dk_at dksX3_sum_0 9 rfl rfl)
theorem dX3_sum_10 : decode cX3_sum 10 = .ok (.iconst 0, 1) := dk_3 (dk_at dksX3_sum_0 10 rfl rfl)
theorem dX3_sum_11 : decode cX3_sum 11 = .ok (.istore 4, 2) := dk_54 4 (dk_at dksX3_sum_0 11 rfl rfl)
theorem dX3_sum_13 : decode cX3_sum 13 = .ok (.iload 4, 2) := dk_21 4 (dk_at dksX3_sum_0 13 rfl rfl)
theorem dX3_sum_15 : decode cX3_sum 15 = .ok (.iload_n 3, 1) := dk_29 (dk_at dksX3_sum_0 15 rfl rfl)
theorem dX3_sum_16 : decode cX3_sum 16 = .ok (.if_icmp .ge 20, 3) := dk_162 0 20 (dk_at dksX3_sum_0 16 rfl rfl)
theorem dX3_sum_19 : decode cX3_sum 19 = .ok (.aload_n 2, 1) := dk_44 (dk_at dksX3_sum_0 19 rfl rfl)
theorem dX3_sum_20 : decode cX3_sum 20 = .ok (.iload 4, 2) := dk_21 4 (dk_at dksX3_sum_0 20 rfl rfl)
theorem dX3_sum_22 : decode cX3_sum 22 = .ok (.iaload, 1) := dk_46 (dk_at dksX3_sum_0 22 rfl rfl)
theorem dX3_sum_23 : decode cX3_sum 23 = .ok (.istore 5, 2) := dk_54 5 (dk_at dksX3_sum_1 0 rfl rfl)
theorem dX3_sum_25 : decode cX3_sum 25 = .ok (.iload_n 1, 1) := dk_27 (dk_at dksX3_sum_1 2 rfl rfl)
theorem dX3_sum_26 : decode cX3_sum 26 = .ok (.iload 5, 2) := dk_21 5 (dk_at dksX3_sum_1 3 rfl rfl)
theorem dX3_sum_28 : decode cX3_sum 28 = .ok (.iadd, 1) := dk_96 (dk_at dksX3_sum_1 5 rfl rfl)
theorem dX3_sum_29 : decode cX3_sum 29 = .ok (.istore_n 1, 1) := dk_60 (dk_at dksX3_sum_1 6 rfl rfl)
theorem dX3_sum_30 : decode cX3_sum 30 = .ok (.iinc 4 1, 3) := dk_132 4 1 (dk_at dksX3_sum_1 7 rfl rfl)
theorem dX3_sum_33 : decode cX3_sum 33 = .ok (.goto (-20), 3) := dk_167 255 236 (dk_at dksX3_sum_1 10 rfl rfl)
theorem dX3_sum_36 : decode cX3_sum 36 = .ok (.iload_n 1, 1) := dk_27 (dk_at dksX3_sum_1 13 rfl rfl)
theorem dX3_sum_37 : decode cX3_sum 37 = .ok (.ireturn, 1) := dk_172 (dk_at dksX3_sum_1 14 rfl rfl)
abbrev cX3_thickest : ByteArray := prog_9_method_6_code
def yX3_thickest : MethodName := ⟨RX3, "thickest", "()I"⟩
def dkwX3_thickest_1 : List UInt8 := [28, 167, 0, 4, 27, 60, 132, 2, 1, 167, 255, 227, 27, 172]
abbrev dktX3_thickest_1 : List UInt8 := dkwX3_thickest_1 ++ []
def dkwX3_thickest_0 : List UInt8 := [3, 60, 4, 61, 28, 7, 162, 0, 30, 42, 180, 0, 9, 28, 46, 42, 180, 0, 9, 27, 46, 164, 0, 7]
abbrev dktX3_thickest_0 : List UInt8 := dkwX3_thickest_0 ++ dktX3_thickest_1
theorem dksX3_thickest_0 : cX3_thickest.data.toList.drop 0 = dktX3_thickest_0 := by decide +kernel
theorem dksX3_thickest_1 : cX3_thickest.data.toList.drop 24 = dktX3_thickest_1 := dk_seg dksX3_thickest_0 24 rfl rfl
theorem dX3_thickest_0 : decode cX3_thickest 0 = .ok (.iconst 0, 1) := dk_3 (dk_at dksX3_thickest_0 0 rfl rfl)
theorem dX3_thickest_1 : decode cX3_thickest 1 = .ok (.istore_n 1, 1) := dk_60 (dk_at dksX3_thickest_0 1 rfl rfl)
theorem dX3_thickest_2 : decode cX3_thickest 2 = .ok (.iconst 1, 1) := dk_4 (dk_at dksX3_thickest_0 2 rfl rfl)
theorem dX3_thickest_3 : decode cX3_thickest 3 = .ok (.istore_n 2, 1) := dk_61 (dk_at dksX3_thickest_0 3 rfl rfl)
theorem dX3_thickest_4 : decode cX3_thickest 4 = .ok (.iload_n 2, 1) := dk_28 (dk_at dksX3_thickest_0 4 rfl rfl)
theorem dX3_thickest_5 : decode cX3_thickest 5 = .ok (.iconst 4, 1) := dk_7 (dk_at dksX3_thickest_0 5 rfl rfl)
theorem dX3_thickest_6 : decode cX3_thickest 6 = .ok (.if_icmp .ge 30, 3) := dk_162 0 30 (dk_at dksX3_thickest_0 6 rfl rfl)
theorem dX3_thickest_9 : decode cX3_thickest 9 = .ok (.aload_n 0, 1) := dk_42 (dk_at dksX3_thickest_0 9 rfl rfl)
theorem dX3_thickest_10 : decode cX3_thickest 10 = .ok (.getfield 9, 3) := dk_180 0 9 (dk_at dksX3_thickest_0 10 rfl rfl)
theorem dX3_thickest_13 : decode cX3_thickest 13 = .ok (.iload_n 2, 1) := dk_28 (dk_at dksX3_thickest_0 13 rfl rfl)
theorem dX3_thickest_14 : decode cX3_thickest 14 = .ok (.iaload, 1) := dk_46 (dk_at dksX3_thickest_0 14 rfl rfl)
theorem dX3_thickest_15 : decode cX3_thickest 15 = .ok (.aload_n 0, 1) := dk_42 (dk_at dksX3_thickest_0 15 rfl rfl)
theorem dX3_thickest_16 : decode cX3_thickest 16 = .ok (.getfield 9, 3) := dk_180 0 9 (dk_at dksX3_thickest_0 16 rfl rfl)
theorem dX3_thickest_19 : decode cX3_thickest 19 = .ok (.iload_n 1, 1) := dk_27 (dk_at dksX3_thickest_0 19 rfl rfl)
theorem dX3_thickest_20 : decode cX3_thickest 20 = .ok (.iaload, 1) := dk_46 (dk_at dksX3_thickest_0 20 rfl rfl)
theorem dX3_thickest_21 : decode cX3_thickest 21 = .ok (.if_icmp .le 7, 3) := dk_164 0 7 (dk_at dksX3_thickest_0 21 rfl rfl)
theorem dX3_thickest_24 : decode cX3_thickest 24 = .ok (.iload_n 2, 1) := dk_28 (dk_at dksX3_thickest_1 0 rfl rfl)
theorem dX3_thickest_25 : decode cX3_thickest 25 = .ok (.goto 4, 3) := dk_167 0 4 (dk_at dksX3_thickest_1 1 rfl rfl)
theorem dX3_thickest_28 : decode cX3_thickest 28 = .ok (.iload_n 1, 1) := dk_27 (dk_at dksX3_thickest_1 4 rfl rfl)
theorem dX3_thickest_29 : decode cX3_thickest 29 = .ok (.istore_n 1, 1) := dk_60 (dk_at dksX3_thickest_1 5 rfl rfl)
theorem dX3_thickest_30 : decode cX3_thickest 30 = .ok (.iinc 2 1, 3) := dk_132 2 1 (dk_at dksX3_thickest_1 6 rfl rfl)
theorem dX3_thickest_33 : decode cX3_thickest 33 = .ok (.goto (-29), 3) := dk_167 255 227 (dk_at dksX3_thickest_1 9 rfl rfl)
theorem dX3_thickest_36 : decode cX3_thickest 36 = .ok (.iload_n 1, 1) := dk_27 (dk_at dksX3_thickest_1 12 rfl rfl)
theorem dX3_thickest_37 : decode cX3_thickest 37 = .ok (.ireturn, 1) := dk_172 (dk_at dksX3_thickest_1 13 rfl rfl)
abbrev cX3_loses : ByteArray := prog_9_method_8_code
def yX3_loses : MethodName := ⟨RX3, "loses", "(II)I"⟩
def dkwX3_loses_0 : List UInt8 := [28, 42, 180, 0, 9, 27, 46, 184, 0, 42, 62, 42, 180, 0, 9, 27, 92, 46, 29, 100, 79, 29, 172]
abbrev dktX3_loses_0 : List UInt8 := dkwX3_loses_0 ++ []
theorem dksX3_loses_0 : cX3_loses.data.toList.drop 0 = dktX3_loses_0 := by decide +kernel
theorem dX3_loses_0 : decode cX3_loses 0 = .ok (.iload_n 2, 1) := dk_28 (dk_at dksX3_loses_0 0 rfl rfl)
theorem dX3_loses_1 : decode cX3_loses 1 = .ok (.aload_n 0, 1) := dk_42 (dk_at dksX3_loses_0 1 rfl rfl)
theorem dX3_loses_2 : decode cX3_loses 2 = .ok (.getfield 9, 3) := dk_180 0 9 (dk_at dksX3_loses_0 2 rfl rfl)
theorem dX3_loses_5 : decode cX3_loses 5 = .ok (.iload_n 1, 1) := dk_27 (dk_at dksX3_loses_0 5 rfl rfl)
theorem dX3_loses_6 : decode cX3_loses 6 = .ok (.iaload, 1) := dk_46 (dk_at dksX3_loses_0 6 rfl rfl)
theorem dX3_loses_7 : decode cX3_loses 7 = .ok (.invokestatic 42, 3) := dk_184 0 42 (dk_at dksX3_loses_0 7 rfl rfl)
theorem dX3_loses_10 : decode cX3_loses 10 = .ok (.istore_n 3, 1) := dk_62 (dk_at dksX3_loses_0 10 rfl rfl)
theorem dX3_loses_11 : decode cX3_loses 11 = .ok (.aload_n 0, 1) := dk_42 (dk_at dksX3_loses_0 11 rfl rfl)
theorem dX3_loses_12 : decode cX3_loses 12 = .ok (.getfield 9, 3) := dk_180 0 9 (dk_at dksX3_loses_0 12 rfl rfl)
theorem dX3_loses_15 : decode cX3_loses 15 = .ok (.iload_n 1, 1) := dk_27 (dk_at dksX3_loses_0 15 rfl rfl)
theorem dX3_loses_16 : decode cX3_loses 16 = .ok (.dup2, 1) := dk_92 (dk_at dksX3_loses_0 16 rfl rfl)
theorem dX3_loses_17 : decode cX3_loses 17 = .ok (.iaload, 1) := dk_46 (dk_at dksX3_loses_0 17 rfl rfl)
theorem dX3_loses_18 : decode cX3_loses 18 = .ok (.iload_n 3, 1) := dk_29 (dk_at dksX3_loses_0 18 rfl rfl)
theorem dX3_loses_19 : decode cX3_loses 19 = .ok (.isub, 1) := dk_100 (dk_at dksX3_loses_0 19 rfl rfl)
theorem dX3_loses_20 : decode cX3_loses 20 = .ok (.iastore, 1) := dk_79 (dk_at dksX3_loses_0 20 rfl rfl)
theorem dX3_loses_21 : decode cX3_loses 21 = .ok (.iload_n 3, 1) := dk_29 (dk_at dksX3_loses_0 21 rfl rfl)
theorem dX3_loses_22 : decode cX3_loses 22 = .ok (.ireturn, 1) := dk_172 (dk_at dksX3_loses_0 22 rfl rfl)
abbrev cX3_bakes : ByteArray := prog_9_method_7_code
def yX3_bakes : MethodName := ⟨RX3, "bakes", "(II)V"⟩
def dkwX3_bakes_0 : List UInt8 := [42, 180, 0, 9, 27, 16, 99, 42, 180, 0, 9, 27, 46, 28, 96, 184, 0, 42, 79, 177]
abbrev dktX3_bakes_0 : List UInt8 := dkwX3_bakes_0 ++ []
theorem dksX3_bakes_0 : cX3_bakes.data.toList.drop 0 = dktX3_bakes_0 := by decide +kernel
theorem dX3_bakes_0 : decode cX3_bakes 0 = .ok (.aload_n 0, 1) := dk_42 (dk_at dksX3_bakes_0 0 rfl rfl)
theorem dX3_bakes_1 : decode cX3_bakes 1 = .ok (.getfield 9, 3) := dk_180 0 9 (dk_at dksX3_bakes_0 1 rfl rfl)
theorem dX3_bakes_4 : decode cX3_bakes 4 = .ok (.iload_n 1, 1) := dk_27 (dk_at dksX3_bakes_0 4 rfl rfl)
theorem dX3_bakes_5 : decode cX3_bakes 5 = .ok (.bipush 99, 2) := dk_16 99 (dk_at dksX3_bakes_0 5 rfl rfl)
theorem dX3_bakes_7 : decode cX3_bakes 7 = .ok (.aload_n 0, 1) := dk_42 (dk_at dksX3_bakes_0 7 rfl rfl)
theorem dX3_bakes_8 : decode cX3_bakes 8 = .ok (.getfield 9, 3) := dk_180 0 9 (dk_at dksX3_bakes_0 8 rfl rfl)
theorem dX3_bakes_11 : decode cX3_bakes 11 = .ok (.iload_n 1, 1) := dk_27 (dk_at dksX3_bakes_0 11 rfl rfl)
theorem dX3_bakes_12 : decode cX3_bakes 12 = .ok (.iaload, 1) := dk_46 (dk_at dksX3_bakes_0 12 rfl rfl)
theorem dX3_bakes_13 : decode cX3_bakes 13 = .ok (.iload_n 2, 1) := dk_28 (dk_at dksX3_bakes_0 13 rfl rfl)
theorem dX3_bakes_14 : decode cX3_bakes 14 = .ok (.iadd, 1) := dk_96 (dk_at dksX3_bakes_0 14 rfl rfl)
theorem dX3_bakes_15 : decode cX3_bakes 15 = .ok (.invokestatic 42, 3) := dk_184 0 42 (dk_at dksX3_bakes_0 15 rfl rfl)
theorem dX3_bakes_18 : decode cX3_bakes 18 = .ok (.iastore, 1) := dk_79 (dk_at dksX3_bakes_0 18 rfl rfl)
theorem dX3_bakes_19 : decode cX3_bakes 19 = .ok (.return_, 1) := dk_177 (dk_at dksX3_bakes_0 19 rfl rfl)
theorem q157 : (Jvm.Cond.initialized "GingerRents$House") ∈ lw_all := lw_g (lw_at lw_m1 7 rfl) rfl
theorem q247 : (Jvm.Cond.instantiable "GingerRents$House" (8 : Nat)) ∈ lw_all := lw_g (lw_at lw_m1 97 rfl) rfl
theorem q249 : (Jvm.Cond.instanceMethod ({ cls := "GingerRents$House", name := "<init>", desc := "()V" } : Jvm.MethodName)) ∈ lw_all := lw_g (lw_at lw_m1 99 rfl) rfl
theorem q250 : (Jvm.Cond.code ({ cls := "GingerRents$House", name := "<init>", desc := "()V" } : Jvm.MethodName) prog_9_method_1_code (1 : Nat) (Option.none : Option Jvm.ClassFile.FieldType)) ∈ lw_all := lw_g (lw_at lw_m1 100 rfl) rfl
theorem q251 : (Jvm.Cond.methodLink "GingerRents$House" (3 : Nat) ({ cls := "java/lang/Object", name := "<init>", desc := "()V" } : Jvm.MethodName)) ∈ lw_all := lw_g (lw_at lw_m1 101 rfl) rfl
theorem q252 : (Jvm.Cond.fieldLink "GingerRents$House" (9 : Nat) "GingerRents$House" "wall" "[I") ∈ lw_all := lw_g (lw_at lw_m1 102 rfl) rfl
theorem q255 : (Jvm.Cond.fieldLink "GingerRents$House" (15 : Nat) "GingerRents$House" "almonds" "I") ∈ lw_all := lw_g (lw_at lw_m1 105 rfl) rfl
theorem q258 : (Jvm.Cond.fieldLink "GingerRents$House" (19 : Nat) "GingerRents$House" "teeth" "I") ∈ lw_all := lw_g (lw_at lw_m1 108 rfl) rfl
theorem q261 : (Jvm.Cond.fieldLink "GingerRents$House" (22 : Nat) "GingerRents$House" "hard" "I") ∈ lw_all := lw_g (lw_at lw_m1 111 rfl) rfl
theorem q265 : (Jvm.Cond.fieldLink "GingerRents$House" (25 : Nat) "GingerRents$House" "icing" "I") ∈ lw_all := lw_g (lw_at lw_m1 115 rfl) rfl
theorem q268 : (Jvm.Cond.fieldLink "GingerRents$House" (28 : Nat) "GingerRents$House" "lodgers" "I") ∈ lw_all := lw_g (lw_at lw_m1 118 rfl) rfl
theorem q271 : (Jvm.Cond.fieldLink "GingerRents$House" (31 : Nat) "GingerRents$House" "age" "I") ∈ lw_all := lw_g (lw_at lw_m1 121 rfl) rfl
theorem q274 : (Jvm.Cond.fieldLink "GingerRents$House" (34 : Nat) "GingerRents$House" "hasDoor" "Z") ∈ lw_all := lw_g (lw_at lw_m1 124 rfl) rfl
theorem q277 : (Jvm.Cond.laysFinal "GingerRents$House" "GingerRents$House" "wall" "[I") ∈ lw_all := lw_g (lw_at lw_m1 127 rfl) rfl
theorem q278 : (Jvm.Cond.soleField "GingerRents$House" "wall") ∈ lw_all := lw_g (lw_at lw_m1 128 rfl) rfl
theorem q279 : (Jvm.Cond.lays "GingerRents$House" "GingerRents$House" "almonds" "I") ∈ lw_all := lw_g (lw_at lw_m1 129 rfl) rfl
theorem q280 : (Jvm.Cond.soleField "GingerRents$House" "almonds") ∈ lw_all := lw_g (lw_at lw_m1 130 rfl) rfl
theorem q281 : (Jvm.Cond.lays "GingerRents$House" "GingerRents$House" "teeth" "I") ∈ lw_all := lw_g (lw_at lw_m1 131 rfl) rfl
theorem q282 : (Jvm.Cond.soleField "GingerRents$House" "teeth") ∈ lw_all := lw_g (lw_at lw_m1 132 rfl) rfl
theorem q283 : (Jvm.Cond.lays "GingerRents$House" "GingerRents$House" "hard" "I") ∈ lw_all := lw_g (lw_at lw_m1 133 rfl) rfl
theorem q284 : (Jvm.Cond.soleField "GingerRents$House" "hard") ∈ lw_all := lw_g (lw_at lw_m1 134 rfl) rfl
theorem q285 : (Jvm.Cond.lays "GingerRents$House" "GingerRents$House" "icing" "I") ∈ lw_all := lw_g (lw_at lw_m1 135 rfl) rfl
theorem q286 : (Jvm.Cond.soleField "GingerRents$House" "icing") ∈ lw_all := lw_g (lw_at lw_m1 136 rfl) rfl
theorem q287 : (Jvm.Cond.lays "GingerRents$House" "GingerRents$House" "lodgers" "I") ∈ lw_all := lw_g (lw_at lw_m1 137 rfl) rfl
theorem q288 : (Jvm.Cond.soleField "GingerRents$House" "lodgers") ∈ lw_all := lw_g (lw_at lw_m1 138 rfl) rfl
theorem q289 : (Jvm.Cond.lays "GingerRents$House" "GingerRents$House" "age" "I") ∈ lw_all := lw_g (lw_at lw_m1 139 rfl) rfl
theorem q290 : (Jvm.Cond.soleField "GingerRents$House" "age") ∈ lw_all := lw_g (lw_at lw_m1 140 rfl) rfl
theorem q291 : (Jvm.Cond.lays "GingerRents$House" "GingerRents$House" "hasDoor" "Z") ∈ lw_all := lw_g (lw_at lw_m1 141 rfl) rfl
theorem q292 : (Jvm.Cond.soleField "GingerRents$House" "hasDoor") ∈ lw_all := lw_g (lw_at lw_m1 142 rfl) rfl
theorem q293 : (Jvm.Cond.superclass "GingerRents$House" "java/lang/Object") ∈ lw_all := lw_g (lw_at lw_m1 143 rfl) rfl
theorem q857 : (Jvm.Cond.selects "GingerRents$House" ({ cls := "java/lang/Object", name := "getClass", desc := "()Ljava/lang/Class;" } : Jvm.MethodName) ({ cls := "java/lang/Object", name := "getClass", desc := "()Ljava/lang/Class;" } : Jvm.MethodName)) ∈ lw_all := lw_g (lw_at lw_m3 227 rfl) rfl
theorem q993 : (Jvm.Cond.instanceMethod ({ cls := "GingerRents$House", name := "takes", desc := "(LGingerRents$House;)V" } : Jvm.MethodName)) ∈ lw_all := lw_g (lw_at lw_m4 123 rfl) rfl
theorem q994 : (Jvm.Cond.selects "GingerRents$House" ({ cls := "GingerRents$House", name := "takes", desc := "(LGingerRents$House;)V" } : Jvm.MethodName) ({ cls := "GingerRents$House", name := "takes", desc := "(LGingerRents$House;)V" } : Jvm.MethodName)) ∈ lw_all := lw_g (lw_at lw_m4 124 rfl) rfl
theorem q995 : (Jvm.Cond.code ({ cls := "GingerRents$House", name := "takes", desc := "(LGingerRents$House;)V" } : Jvm.MethodName) prog_9_method_3_code (3 : Nat) (Option.none : Option Jvm.ClassFile.FieldType)) ∈ lw_all := lw_g (lw_at lw_m4 125 rfl) rfl
theorem q1009 : (Jvm.Cond.instanceMethod ({ cls := "GingerRents$House", name := "begins", desc := "(III)V" } : Jvm.MethodName)) ∈ lw_all := lw_g (lw_at lw_m4 139 rfl) rfl
theorem q1010 : (Jvm.Cond.selects "GingerRents$House" ({ cls := "GingerRents$House", name := "begins", desc := "(III)V" } : Jvm.MethodName) ({ cls := "GingerRents$House", name := "begins", desc := "(III)V" } : Jvm.MethodName)) ∈ lw_all := lw_g (lw_at lw_m4 140 rfl) rfl
theorem q1011 : (Jvm.Cond.code ({ cls := "GingerRents$House", name := "begins", desc := "(III)V" } : Jvm.MethodName) prog_9_method_2_code (5 : Nat) (Option.none : Option Jvm.ClassFile.FieldType)) ∈ lw_all := lw_g (lw_at lw_m4 141 rfl) rfl
theorem q1037 : (Jvm.Cond.instanceMethod ({ cls := "GingerRents$House", name := "stands", desc := "()Z" } : Jvm.MethodName)) ∈ lw_all := lw_g (lw_at lw_m4 167 rfl) rfl
theorem q1038 : (Jvm.Cond.selects "GingerRents$House" ({ cls := "GingerRents$House", name := "stands", desc := "()Z" } : Jvm.MethodName) ({ cls := "GingerRents$House", name := "stands", desc := "()Z" } : Jvm.MethodName)) ∈ lw_all := lw_g (lw_at lw_m4 168 rfl) rfl
theorem q1039 : (Jvm.Cond.code ({ cls := "GingerRents$House", name := "stands", desc := "()Z" } : Jvm.MethodName) prog_9_method_5_code (1 : Nat) (Option.some Jvm.ClassFile.FieldType.boolean)) ∈ lw_all := lw_g (lw_at lw_m4 169 rfl) rfl
theorem q1040 : (Jvm.Cond.methodLink "GingerRents$House" (38 : Nat) ({ cls := "GingerRents$House", name := "sum", desc := "()I" } : Jvm.MethodName)) ∈ lw_all := lw_g (lw_at lw_m4 170 rfl) rfl
theorem q1041 : (Jvm.Cond.instanceMethod ({ cls := "GingerRents$House", name := "sum", desc := "()I" } : Jvm.MethodName)) ∈ lw_all := lw_g (lw_at lw_m4 171 rfl) rfl
theorem q1042 : (Jvm.Cond.selects "GingerRents$House" ({ cls := "GingerRents$House", name := "sum", desc := "()I" } : Jvm.MethodName) ({ cls := "GingerRents$House", name := "sum", desc := "()I" } : Jvm.MethodName)) ∈ lw_all := lw_g (lw_at lw_m4 172 rfl) rfl
theorem q1043 : (Jvm.Cond.code ({ cls := "GingerRents$House", name := "sum", desc := "()I" } : Jvm.MethodName) prog_9_method_4_code (6 : Nat) (Option.some Jvm.ClassFile.FieldType.int)) ∈ lw_all := lw_g (lw_at lw_m4 173 rfl) rfl
theorem q1054 : (Jvm.Cond.instanceMethod ({ cls := "GingerRents$House", name := "thickest", desc := "()I" } : Jvm.MethodName)) ∈ lw_all := lw_g (lw_at lw_m4 184 rfl) rfl
theorem q1055 : (Jvm.Cond.selects "GingerRents$House" ({ cls := "GingerRents$House", name := "thickest", desc := "()I" } : Jvm.MethodName) ({ cls := "GingerRents$House", name := "thickest", desc := "()I" } : Jvm.MethodName)) ∈ lw_all := lw_g (lw_at lw_m4 185 rfl) rfl
theorem q1056 : (Jvm.Cond.code ({ cls := "GingerRents$House", name := "thickest", desc := "()I" } : Jvm.MethodName) prog_9_method_6_code (3 : Nat) (Option.some Jvm.ClassFile.FieldType.int)) ∈ lw_all := lw_g (lw_at lw_m4 186 rfl) rfl
theorem q1058 : (Jvm.Cond.instanceMethod ({ cls := "GingerRents$House", name := "loses", desc := "(II)I" } : Jvm.MethodName)) ∈ lw_all := lw_g (lw_at lw_m4 188 rfl) rfl
theorem q1059 : (Jvm.Cond.selects "GingerRents$House" ({ cls := "GingerRents$House", name := "loses", desc := "(II)I" } : Jvm.MethodName) ({ cls := "GingerRents$House", name := "loses", desc := "(II)I" } : Jvm.MethodName)) ∈ lw_all := lw_g (lw_at lw_m4 189 rfl) rfl
theorem q1060 : (Jvm.Cond.code ({ cls := "GingerRents$House", name := "loses", desc := "(II)I" } : Jvm.MethodName) prog_9_method_8_code (4 : Nat) (Option.some Jvm.ClassFile.FieldType.int)) ∈ lw_all := lw_g (lw_at lw_m4 190 rfl) rfl
theorem q1061 : (Jvm.Cond.methodLink "GingerRents$House" (42 : Nat) ({ cls := "java/lang/Math", name := "min", desc := "(II)I" } : Jvm.MethodName)) ∈ lw_all := lw_g (lw_at lw_m4 191 rfl) rfl
theorem q1092 : (Jvm.Cond.instanceMethod ({ cls := "GingerRents$House", name := "bakes", desc := "(II)V" } : Jvm.MethodName)) ∈ lw_all := lw_g (lw_at lw_m4 222 rfl) rfl
theorem q1093 : (Jvm.Cond.selects "GingerRents$House" ({ cls := "GingerRents$House", name := "bakes", desc := "(II)V" } : Jvm.MethodName) ({ cls := "GingerRents$House", name := "bakes", desc := "(II)V" } : Jvm.MethodName)) ∈ lw_all := lw_g (lw_at lw_m4 223 rfl) rfl
theorem q1094 : (Jvm.Cond.code ({ cls := "GingerRents$House", name := "bakes", desc := "(II)V" } : Jvm.MethodName) prog_9_method_7_code (3 : Nat) (Option.none : Option Jvm.ClassFile.FieldType)) ∈ lw_all := lw_g (lw_at lw_m4 224 rfl) rfl
theorem q2258 : (Jvm.Cond.castable "GingerRents$House" "java/lang/Object") ∈ lw_tbl := lw_at lw_m9 188 rfl
theorem in_X3 : ∀ w ∈ wsX30, w ∈ lw_all := lw_in wsX30 [277, 279, 281, 283, 285, 287, 289, 291] (by decide +kernel) (by decide +kernel)
