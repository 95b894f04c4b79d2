/-! TunedHouses -/
set_option maxRecDepth 100000
def RX1 : String := "TunedHouses"
def TX1 : u_T := fun k => match k with
  | 0 => ("TunedHouses", "told", "LTunedHouses$Told;", false)
  | 1 => ("TunedHouses", "law", "LTunedHouses$Term;", false)
  | 2 => ("TunedHouses", "facts", "[I", true)
  | 3 => ("TunedHouses", "bookOf", "[I", true)
  | 4 => ("TunedHouses", "refused", "[I", true)
  | 5 => ("TunedHouses", "now", "LTunedHouses$Terrace;", true)
  | 6 => ("TunedHouses", "probe", "LTunedHouses$Terrace;", true)
  | 7 => ("TunedHouses", "past", "[LTunedHouses$Terrace;", true)
  | 8 => ("TunedHouses", "images", "[LTunedHouses$Terrace;", true)
  | 9 => ("TunedHouses", "imagePast", "[LTunedHouses$Terrace;", true)
  | 10 => ("TunedHouses", "imageWorks", "[I", true)
  | 11 => ("TunedHouses", "works", "I", false)
  | 12 => ("TunedHouses", "refusedSteps", "I", false)
  | 13 => ("TunedHouses", "lineMany", "I", false)
  | 14 => ("TunedHouses", "seedNow", "I", false)
  | 15 => ("TunedHouses", "taped", "I", false)
  | 16 => ("TunedHouses", "faultAt", "I", false)
  | 17 => ("TunedHouses", "imageMany", "I", false)
  | 18 => ("TunedHouses", "tape", "[B", true)
  | 19 => ("TunedHouses", "where", "[I", true)
  | 20 => ("TunedHouses", "bestWhere", "[I", true)
  | 21 => ("TunedHouses", "mostWishes", "I", false)
  | 22 => ("TunedHouses", "wouldBe", "[I", true)
  | 23 => ("TunedHouses", "leftBy", "[I", true)
  | 24 => ("TunedHouses", "fits", "[Z", true)
  | _ => ("TunedHouses", "putMany", "I", false)
def tyX1 : Nat → FieldType := fun k => match k with
  | 0 => .object "TunedHouses$Told"
  | 1 => .object "TunedHouses$Term"
  | 2 => .array .int
  | 3 => .array .int
  | 4 => .array .int
  | 5 => .object "TunedHouses$Terrace"
  | 6 => .object "TunedHouses$Terrace"
  | 7 => .array (.object "TunedHouses$Terrace")
  | 8 => .array (.object "TunedHouses$Terrace")
  | 9 => .array (.object "TunedHouses$Terrace")
  | 10 => .array .int
  | 11 => .int
  | 12 => .int
  | 13 => .int
  | 14 => .int
  | 15 => .int
  | 16 => .int
  | 17 => .int
  | 18 => .array .byte
  | 19 => .array .int
  | 20 => .array .int
  | 21 => .int
  | 22 => .array .int
  | 23 => .array .int
  | 24 => .array .boolean
  | _ => .int
abbrev wsX10 : List Cond := u_ws RX1 TX1 26
set_option maxRecDepth 100000 in
theorem nmX1 : ∀ a, a < 26 → ∀ b, b < 26 → a ≠ b → (TX1 a).2.1 ≠ (TX1 b).2.1 := by decide +kernel
set_option maxRecDepth 100000 in
theorem tyX1_ok : ∀ k, k < 26 → parseFieldDescriptor (TX1 k).2.2.1 = some (tyX1 k) := by decide +kernel
abbrev cX1_init : ByteArray := prog_1_method_2_code
def yX1_init : MethodName := ⟨RX1, "<init>", "()V"⟩
def dkwX1_init_6 : List UInt8 := [42, 16, 100, 188, 10, 181, 0, 87, 42, 17, 3, 132, 188, 4, 181, 0, 90, 42, 182, 0, 94, 177]
abbrev dktX1_init_6 : List UInt8 := dkwX1_init_6 ++ []
def dkwX1_init_5 : List UInt8 := [42, 16, 6, 188, 10, 181, 0, 77, 42, 16, 6, 188, 10, 181, 0, 80, 42, 18, 83, 188, 10, 181, 0, 84]
abbrev dktX1_init_5 : List UInt8 := dkwX1_init_5 ++ dktX1_init_6
def dkwX1_init_4 : List UInt8 := [181, 0, 63, 42, 6, 188, 10, 181, 0, 66, 42, 2, 181, 0, 69, 42, 17, 2, 88, 188, 8, 181, 0, 73]
abbrev dktX1_init_4 : List UInt8 := dkwX1_init_4 ++ dktX1_init_5
def dkwX1_init_3 : List UInt8 := [16, 16, 189, 0, 44, 181, 0, 56, 42, 6, 189, 0, 44, 181, 0, 60, 42, 16, 48, 189, 0, 44]
abbrev dktX1_init_3 : List UInt8 := dkwX1_init_3 ++ dktX1_init_4
def dkwX1_init_2 : List UInt8 := [187, 0, 44, 89, 42, 183, 0, 46, 181, 0, 49, 42, 187, 0, 44, 89, 42, 183, 0, 46, 181, 0, 53, 42]
abbrev dktX1_init_2 : List UInt8 := dkwX1_init_2 ++ dktX1_init_3
def dkwX1_init_1 : List UInt8 := [16, 8, 188, 10, 181, 0, 34, 42, 16, 61, 188, 10, 181, 0, 38, 42, 5, 188, 10, 181, 0, 41, 42]
abbrev dktX1_init_1 : List UInt8 := dkwX1_init_1 ++ dktX1_init_2
def dkwX1_init_0 : List UInt8 := [42, 183, 0, 14, 42, 187, 0, 19, 89, 183, 0, 21, 181, 0, 22, 42, 184, 0, 26, 181, 0, 30, 42]
abbrev dktX1_init_0 : List UInt8 := dkwX1_init_0 ++ dktX1_init_1
theorem dksX1_init_0 : cX1_init.data.toList.drop 0 = dktX1_init_0 := by decide +kernel
theorem dksX1_init_1 : cX1_init.data.toList.drop 23 = dktX1_init_1 := dk_seg dksX1_init_0 23 rfl rfl
theorem dksX1_init_2 : cX1_init.data.toList.drop 46 = dktX1_init_2 := dk_seg dksX1_init_1 23 rfl rfl
theorem dksX1_init_3 : cX1_init.data.toList.drop 70 = dktX1_init_3 := dk_seg dksX1_init_2 24 rfl rfl
theorem dksX1_init_4 : cX1_init.data.toList.drop 92 = dktX1_init_4 := dk_seg dksX1_init_3 22 rfl rfl
theorem dksX1_init_5 : cX1_init.data.toList.drop 116 = dktX1_init_5 := dk_seg dksX1_init_4 24 rfl rfl
theorem dksX1_init_6 : cX1_init.data.toList.drop 140 = dktX1_init_6 := dk_seg dksX1_init_5 24 rfl rfl
theorem dX1_init_0 : decode cX1_init 0 = .ok (.aload_n 0, 1) := dk_42 (dk_at dksX1_init_0 0 rfl rfl)
theorem dX1_init_1 : decode cX1_init 1 = .ok (.invokespecial 14, 3) := dk_183 0 14 (dk_at dksX1_init_0 1 rfl rfl)
theorem dX1_init_4 : decode cX1_init 4 = .ok (.aload_n 0, 1) := dk_42 (dk_at dksX1_init_0 4 rfl rfl)
theorem dX1_init_5 : decode cX1_init 5 = .ok (.new 19, 3) := dk_187 0 19 (dk_at dksX1_init_0 5 rfl rfl)
theorem dX1_init_8 : decode cX1_init 8 = .ok (.dup, 1) := dk_89 (dk_at dksX1_init_0 8 rfl rfl)
theorem dX1_init_9 : decode cX1_init 9 = .ok (.invokespecial 21, 3) := dk_183 0 21 (dk_at dksX1_init_0 9 rfl rfl)
theorem dX1_init_12 : decode cX1_init 12 = .ok (.putfield 22, 3) := dk_181 0 22 (dk_at dksX1_init_0 12 rfl rfl)
theorem dX1_init_15 : decode cX1_init 15 = .ok (.aload_n 0, 1) := dk_42 (dk_at dksX1_init_0 15 rfl rfl)
theorem dX1_init_16 : decode cX1_init 16 = .ok (.invokestatic 26, 3) := dk_184 0 26 (dk_at dksX1_init_0 16 rfl rfl)
theorem dX1_init_19 : decode cX1_init 19 = .ok (.putfield 30, 3) := dk_181 0 30 (dk_at dksX1_init_0 19 rfl rfl)
theorem dX1_init_22 : decode cX1_init 22 = .ok (.aload_n 0, 1) := dk_42 (dk_at dksX1_init_0 22 rfl rfl)
theorem dX1_init_23 : decode cX1_init 23 = .ok (.bipush 8, 2) := dk_16 8 (dk_at dksX1_init_1 0 rfl rfl)
theorem dX1_init_25 : decode cX1_init 25 = .ok (.newarray .int, 2) := dk_188_10 (dk_at dksX1_init_1 2 rfl rfl)
theorem dX1_init_27 : decode cX1_init 27 = .ok (.putfield 34, 3) := dk_181 0 34 (dk_at dksX1_init_1 4 rfl rfl)
theorem dX1_init_30 : decode cX1_init 30 = .ok (.aload_n 0, 1) := dk_42 (dk_at dksX1_init_1 7 rfl rfl)
theorem dX1_init_31 : decode cX1_init 31 = .ok (.bipush 61, 2) := dk_16 61 (dk_at dksX1_init_1 8 rfl rfl)
theorem dX1_init_33 : decode cX1_init 33 = .ok (.newarray .int, 2) := dk_188_10 (dk_at dksX1_init_1 10 rfl rfl)
theorem dX1_init_35 : decode cX1_init 35 = .ok (.putfield 38, 3) := dk_181 0 38 (dk_at dksX1_init_1 12 rfl rfl)
theorem dX1_init_38 : decode cX1_init 38 = .ok (.aload_n 0, 1) := dk_42 (dk_at dksX1_init_1 15 rfl rfl)
theorem dX1_init_39 : decode cX1_init 39 = .ok (.iconst 2, 1) := dk_5 (dk_at dksX1_init_1 16 rfl rfl)
theorem dX1_init_40 : decode cX1_init 40 = .ok (.newarray .int, 2) := dk_188_10 (dk_at dksX1_init_1 17 rfl rfl)
theorem dX1_init_42 : decode cX1_init 42 = .ok (.putfield 41, 3) := dk_181 0 41 (dk_at dksX1_init_1 19 rfl rfl)
theorem dX1_init_45 : decode cX1_init 45 = .ok (.aload_n 0, 1) := dk_42 (dk_at dksX1_init_1 22 rfl rfl)
theorem dX1_init_46 : decode cX1_init 46 = .ok (.new 44, 3) := dk_187 0 44 (dk_at dksX1_init_2 0 rfl rfl)
theorem dX1_init_49 : decode cX1_init 49 = .ok (.dup, 1) := dk_89 (dk_at dksX1_init_2 3 rfl rfl)
theorem dX1_init_50 : decode cX1_init 50 = .ok (.aload_n 0, 1) := dk_42 (dk_at dksX1_init_2 4 rfl rfl)
theorem dX1_init_51 : decode cX1_init 51 = .ok (.invokespecial 46, 3) := dk_183 0 46 (dk_at dksX1_init_2 5 rfl rfl)
theorem dX1_init_54 : decode cX1_init 54 = .ok (.putfield 49, 3) := dk_181 0 49 (dk_at dksX1_init_2 8 rfl rfl)
theorem dX1_init_57 : decode cX1_init 57 = .ok (.aload_n 0, 1) := dk_42 (dk_at dksX1_init_2 11 rfl rfl)
theorem dX1_init_58 : decode cX1_init 58 = .ok (.new 44, 3) := dk_187 0 44 (dk_at dksX1_init_2 12 rfl rfl)
theorem dX1_init_61 : decode cX1_init 61 = .ok (.dup, 1) := dk_89 (dk_at dksX1_init_2 15 rfl rfl)
theorem dX1_init_62 : decode cX1_init 62 = .ok (.aload_n 0, 1) := dk_42 (dk_at dksX1_init_2 16 rfl rfl)
theorem dX1_init_63 : decode cX1_init 63 = .ok (.invokespecial 46, 3) := dk_183 0 46 (dk_at dksX1_init_2 17 rfl rfl)
theorem dX1_init_66 : decode cX1_init 66 = .ok (.putfield 53, 3) := dk_181 0 53 (dk_at dksX1_init_2 20 rfl rfl)
theorem dX1_init_69 : decode cX1_init 69 = .ok (.aload_n 0, 1) := dk_42 (dk_at dksX1_init_2 23 rfl rfl)
theorem dX1_init_70 : decode cX1_init 70 = .ok (.bipush 16, 2) := dk_16 16 (dk_at dksX1_init_3 0 rfl rfl)
theorem dX1_init_72 : decode cX1_init 72 = .ok (.anewarray 44, 3) := dk_189 0 44 (dk_at dksX1_init_3 2 rfl rfl)
theorem dX1_init_75 : decode cX1_init 75 = .ok (.putfield 56, 3) := dk_181 0 56 (dk_at dksX1_init_3 5 rfl rfl)
theorem dX1_init_78 : decode cX1_init 78 = .ok (.aload_n 0, 1) := dk_42 (dk_at dksX1_init_3 8 rfl rfl)
theorem dX1_init_79 : decode cX1_init 79 = .ok (.iconst 3, 1) := dk_6 (dk_at dksX1_init_3 9 rfl rfl)
theorem dX1_init_80 : decode cX1_init 80 = .ok (.anewarray 44, 3) := dk_189 0 44 (dk_at dksX1_init_3 10 rfl rfl)
theorem dX1_init_83 : decode cX1_init 83 = .ok (.putfield 60, 3) := dk_181 0 60 (dk_at dksX1_init_3 13 rfl rfl)
theorem dX1_init_86 : decode cX1_init 86 = .ok (.aload_n 0, 1) := dk_42 (dk_at dksX1_init_3 16 rfl rfl)
theorem dX1_init_87 : decode cX1_init 87 = .ok (.bipush 48, 2) := dk_16 48 (dk_at dksX1_init_3 17 rfl rfl)
theorem dX1_init_89 : decode cX1_init 89 = .ok (.anewarray 44, 3) := dk_189 0 44 (dk_at dksX1_init_3 19 rfl rfl)
theorem dX1_init_92 : decode cX1_init 92 = .ok (.putfield 63, 3) := dk_181 0 63 (dk_at dksX1_init_4 0 rfl rfl)
theorem dX1_init_95 : decode cX1_init 95 = .ok (.aload_n 0, 1) := dk_42 (dk_at dksX1_init_4 3 rfl rfl)
theorem dX1_init_96 : decode cX1_init 96 = .ok (.iconst 3, 1) := dk_6 (dk_at dksX1_init_4 4 rfl rfl)
theorem dX1_init_97 : decode cX1_init 97 = .ok (.newarray .int, 2) := dk_188_10 (dk_at dksX1_init_4 5 rfl rfl)
theorem dX1_init_99 : decode cX1_init 99 = .ok (.putfield 66, 3) := dk_181 0 66 (dk_at dksX1_init_4 7 rfl rfl)
theorem dX1_init_102 : decode cX1_init 102 = .ok (.aload_n 0, 1) := dk_42 (dk_at dksX1_init_4 10 rfl rfl)
theorem dX1_init_103 : decode cX1_init 103 = .ok (.iconst (-1), 1) := dk_2 (dk_at dksX1_init_4 11 rfl rfl)
theorem dX1_init_104 : decode cX1_init 104 = .ok (.putfield 69, 3) := dk_181 0 69 (dk_at dksX1_init_4 12 rfl rfl)
theorem dX1_init_107 : decode cX1_init 107 = .ok (.aload_n 0, 1) := dk_42 (dk_at dksX1_init_4 15 rfl rfl)
theorem dX1_init_108 : decode cX1_init 108 = .ok (.sipush 600, 3) := dk_17 2 88 (dk_at dksX1_init_4 16 rfl rfl)
theorem dX1_init_111 : decode cX1_init 111 = .ok (.newarray .byte, 2) := dk_188_8 (dk_at dksX1_init_4 19 rfl rfl)
theorem dX1_init_113 : decode cX1_init 113 = .ok (.putfield 73, 3) := dk_181 0 73 (dk_at dksX1_init_4 21 rfl rfl)
theorem dX1_init_116 : decode cX1_init 116 = .ok (.aload_n 0, 1) := dk_42 (dk_at dksX1_init_5 0 rfl rfl)
theorem dX1_init_117 : decode cX1_init 117 = .ok (.bipush 6, 2) := dk_16 6 (dk_at dksX1_init_5 1 rfl rfl)
theorem dX1_init_119 : decode cX1_init 119 = .ok (.newarray .int, 2) := dk_188_10 (dk_at dksX1_init_5 3 rfl rfl)
theorem dX1_init_121 : decode cX1_init 121 = .ok (.putfield 77, 3) := dk_181 0 77 (dk_at dksX1_init_5 5 rfl rfl)
theorem dX1_init_124 : decode cX1_init 124 = .ok (.aload_n 0, 1) := dk_42 (dk_at dksX1_init_5 8 rfl rfl)
theorem dX1_init_125 : decode cX1_init 125 = .ok (.bipush 6, 2) := dk_16 6 (dk_at dksX1_init_5 9 rfl rfl)
theorem dX1_init_127 : decode cX1_init 127 = .ok (.newarray .int, 2) := dk_188_10 (dk_at dksX1_init_5 11 rfl rfl)
theorem dX1_init_129 : decode cX1_init 129 = .ok (.putfield 80, 3) := dk_181 0 80 (dk_at dksX1_init_5 13 rfl rfl)
theorem dX1_init_132 : decode cX1_init 132 = .ok (.aload_n 0, 1) := dk_42 (dk_at dksX1_init_5 16 rfl rfl)
theorem dX1_init_133 : decode cX1_init 133 = .ok (.ldc 83, 2) := dk_18 83 (dk_at dksX1_init_5 17 rfl rfl)
theorem dX1_init_135 : decode cX1_init 135 = .ok (.newarray .int, 2) := dk_188_10 (dk_at dksX1_init_5 19 rfl rfl)
theorem dX1_init_137 : decode cX1_init 137 = .ok (.putfield 84, 3) := dk_181 0 84 (dk_at dksX1_init_5 21 rfl rfl)
theorem dX1_init_140 : decode cX1_init 140 = .ok (.aload_n 0, 1) := dk_42 (dk_at dksX1_init_6 0 rfl rfl)
theorem dX1_init_141 : decode cX1_init 141 = .ok (.bipush 100, 2) := dk_16 100 (dk_at dksX1_init_6 1 rfl rfl)
theorem dX1_init_143 : decode cX1_init 143 = .ok (.newarray .int, 2) := dk_188_10 (dk_at dksX1_init_6 3 rfl rfl)
theorem dX1_init_145 : decode cX1_init 145 = .ok (.putfield 87, 3) := dk_181 0 87 (dk_at dksX1_init_6 5 rfl rfl)
theorem dX1_init_148 : decode cX1_init 148 = .ok (.aload_n 0, 1) := dk_42 (dk_at dksX1_init_6 8 rfl rfl)
theorem dX1_init_149 : decode cX1_init 149 = .ok (.sipush 900, 3) := dk_17 3 132 (dk_at dksX1_init_6 9 rfl rfl)
theorem dX1_init_152 : decode cX1_init 152 = .ok (.newarray .boolean, 2) := dk_188_4 (dk_at dksX1_init_6 12 rfl rfl)
theorem dX1_init_154 : decode cX1_init 154 = .ok (.putfield 90, 3) := dk_181 0 90 (dk_at dksX1_init_6 14 rfl rfl)
theorem dX1_init_157 : decode cX1_init 157 = .ok (.aload_n 0, 1) := dk_42 (dk_at dksX1_init_6 17 rfl rfl)
theorem dX1_init_158 : decode cX1_init 158 = .ok (.invokevirtual 94, 3) := dk_182 0 94 (dk_at dksX1_init_6 18 rfl rfl)
theorem dX1_init_161 : decode cX1_init 161 = .ok (.return_, 1) := dk_177 (dk_at dksX1_init_6 21 rfl rfl)
abbrev cX1_custom : ByteArray := prog_1_method_1_code
def yX1_custom : MethodName := ⟨RX1, "custom", "()LTunedHouses$Term;"⟩
def dkwX1_custom_0 : List UInt8 := [187, 0, 3, 89, 187, 0, 5, 89, 3, 183, 0, 7, 187, 0, 5, 89, 4, 183, 0, 7, 183, 0, 11, 176]
abbrev dktX1_custom_0 : List UInt8 := dkwX1_custom_0 ++ []
theorem dksX1_custom_0 : cX1_custom.data.toList.drop 0 = dktX1_custom_0 := by decide +kernel
theorem dX1_custom_0 : decode cX1_custom 0 = .ok (.new 3, 3) := dk_187 0 3 (dk_at dksX1_custom_0 0 rfl rfl)
theorem dX1_custom_3 : decode cX1_custom 3 = .ok (.dup, 1) := dk_89 (dk_at dksX1_custom_0 3 rfl rfl)
theorem dX1_custom_4 : decode cX1_custom 4 = .ok (.new 5, 3) := dk_187 0 5 (dk_at dksX1_custom_0 4 rfl rfl)
theorem dX1_custom_7 : decode cX1_custom 7 = .ok (.dup, 1) := dk_89 (dk_at dksX1_custom_0 7 rfl rfl)
theorem dX1_custom_8 : decode cX1_custom 8 = .ok (.iconst 0, 1) := dk_3 (dk_at dksX1_custom_0 8 rfl rfl)
theorem dX1_custom_9 : decode cX1_custom 9 = .ok (.invokespecial 7, 3) := dk_183 0 7 (dk_at dksX1_custom_0 9 rfl rfl)
theorem dX1_custom_12 : decode cX1_custom 12 = .ok (.new 5, 3) := dk_187 0 5 (dk_at dksX1_custom_0 12 rfl rfl)
theorem dX1_custom_15 : decode cX1_custom 15 = .ok (.dup, 1) := dk_89 (dk_at dksX1_custom_0 15 rfl rfl)
theorem dX1_custom_16 : decode cX1_custom 16 = .ok (.iconst 1, 1) := dk_4 (dk_at dksX1_custom_0 16 rfl rfl)
theorem dX1_custom_17 : decode cX1_custom 17 = .ok (.invokespecial 7, 3) := dk_183 0 7 (dk_at dksX1_custom_0 17 rfl rfl)
theorem dX1_custom_20 : decode cX1_custom 20 = .ok (.invokespecial 11, 3) := dk_183 0 11 (dk_at dksX1_custom_0 20 rfl rfl)
theorem dX1_custom_23 : decode cX1_custom 23 = .ok (.areturn, 1) := dk_176 (dk_at dksX1_custom_0 23 rfl rfl)
abbrev cX1_begins : ByteArray := prog_1_method_3_code
def yX1_begins : MethodName := ⟨RX1, "begins", "()V"⟩
def dkwX1_begins_2 : List UInt8 := [42, 3, 181, 0, 106, 42, 3, 181, 0, 109, 177]
abbrev dktX1_begins_2 : List UInt8 := dkwX1_begins_2 ++ []
def dkwX1_begins_1 : List UInt8 := [132, 1, 1, 167, 255, 240, 42, 180, 0, 49, 182, 0, 97, 87, 42, 3, 181, 0, 100, 42, 3, 181, 0, 103]
abbrev dktX1_begins_1 : List UInt8 := dkwX1_begins_1 ++ dktX1_begins_2
def dkwX1_begins_0 : List UInt8 := [42, 184, 0, 26, 181, 0, 30, 3, 60, 27, 16, 61, 162, 0, 16, 42, 180, 0, 38, 27, 2, 79]
abbrev dktX1_begins_0 : List UInt8 := dkwX1_begins_0 ++ dktX1_begins_1
theorem dksX1_begins_0 : cX1_begins.data.toList.drop 0 = dktX1_begins_0 := by decide +kernel
theorem dksX1_begins_1 : cX1_begins.data.toList.drop 22 = dktX1_begins_1 := dk_seg dksX1_begins_0 22 rfl rfl
theorem dksX1_begins_2 : cX1_begins.data.toList.drop 46 = dktX1_begins_2 := dk_seg dksX1_begins_1 24 rfl rfl
theorem dX1_begins_0 : decode cX1_begins 0 = .ok (.aload_n 0, 1) := dk_42 (dk_at dksX1_begins_0 0 rfl rfl)
theorem dX1_begins_1 : decode cX1_begins 1 = .ok (.invokestatic 26, 3) := dk_184 0 26 (dk_at dksX1_begins_0 1 rfl rfl)
theorem dX1_begins_4 : decode cX1_begins 4 = .ok (.putfield 30, 3) := dk_181 0 30 (dk_at dksX1_begins_0 4 rfl rfl)
theorem dX1_begins_7 : decode cX1_begins 7 = .ok (.iconst 0, 1) := dk_3 (dk_at dksX1_begins_0 7 rfl rfl)
theorem dX1_begins_8 : decode cX1_begins 8 = .ok (.istore_n 1, 1) := dk_60 (dk_at dksX1_begins_0 8 rfl rfl)
theorem dX1_begins_9 : decode cX1_begins 9 = .ok (.iload_n 1, 1) := dk_27 (dk_at dksX1_begins_0 9 rfl rfl)
theorem dX1_begins_10 : decode cX1_begins 10 = .ok (.bipush 61, 2) := dk_16 61 (dk_at dksX1_begins_0 10 rfl rfl)
theorem dX1_begins_12 : decode cX1_begins 12 = .ok (.if_icmp .ge 16, 3) := dk_162 0 16 (dk_at dksX1_begins_0 12 rfl rfl)
theorem dX1_begins_15 : decode cX1_begins 15 = .ok (.aload_n 0, 1) := dk_42 (dk_at dksX1_begins_0 15 rfl rfl)
theorem dX1_begins_16 : decode cX1_begins 16 = .ok (.getfield 38, 3) := dk_180 0 38 (dk_at dksX1_begins_0 16 rfl rfl)
theorem dX1_begins_19 : decode cX1_begins 19 = .ok (.iload_n 1, 1) := dk_27 (dk_at dksX1_begins_0 19 rfl rfl)
theorem dX1_begins_20 : decode cX1_begins 20 = .ok (.iconst (-1), 1) := dk_2 (dk_at dksX1_begins_0 20 rfl rfl)
theorem dX1_begins_21 : decode cX1_begins 21 = .ok (.iastore, 1) := dk_79 (dk_at dksX1_begins_0 21 rfl rfl)
theorem dX1_begins_22 : decode cX1_begins 22 = .ok (.iinc 1 1, 3) := dk_132 1 1 (dk_at dksX1_begins_1 0 rfl rfl)
theorem dX1_begins_25 : decode cX1_begins 25 = .ok (.goto (-16), 3) := dk_167 255 240 (dk_at dksX1_begins_1 3 rfl rfl)
theorem dX1_begins_28 : decode cX1_begins 28 = .ok (.aload_n 0, 1) := dk_42 (dk_at dksX1_begins_1 6 rfl rfl)
theorem dX1_begins_29 : decode cX1_begins 29 = .ok (.getfield 49, 3) := dk_180 0 49 (dk_at dksX1_begins_1 7 rfl rfl)
theorem dX1_begins_32 : decode cX1_begins 32 = .ok (.invokevirtual 97, 3) := dk_182 0 97 (dk_at dksX1_begins_1 10 rfl rfl)
theorem dX1_begins_35 : decode cX1_begins 35 = .ok (.pop, 1) := dk_87 (dk_at dksX1_begins_1 13 rfl rfl)
theorem dX1_begins_36 : decode cX1_begins 36 = .ok (.aload_n 0, 1) := dk_42 (dk_at dksX1_begins_1 14 rfl rfl)
theorem dX1_begins_37 : decode cX1_begins 37 = .ok (.iconst 0, 1) := dk_3 (dk_at dksX1_begins_1 15 rfl rfl)
theorem dX1_begins_38 : decode cX1_begins 38 = .ok (.putfield 100, 3) := dk_181 0 100 (dk_at dksX1_begins_1 16 rfl rfl)
theorem dX1_begins_41 : decode cX1_begins 41 = .ok (.aload_n 0, 1) := dk_42 (dk_at dksX1_begins_1 19 rfl rfl)
theorem dX1_begins_42 : decode cX1_begins 42 = .ok (.iconst 0, 1) := dk_3 (dk_at dksX1_begins_1 20 rfl rfl)
theorem dX1_begins_43 : decode cX1_begins 43 = .ok (.putfield 103, 3) := dk_181 0 103 (dk_at dksX1_begins_1 21 rfl rfl)
theorem dX1_begins_46 : decode cX1_begins 46 = .ok (.aload_n 0, 1) := dk_42 (dk_at dksX1_begins_2 0 rfl rfl)
theorem dX1_begins_47 : decode cX1_begins 47 = .ok (.iconst 0, 1) := dk_3 (dk_at dksX1_begins_2 1 rfl rfl)
theorem dX1_begins_48 : decode cX1_begins 48 = .ok (.putfield 106, 3) := dk_181 0 106 (dk_at dksX1_begins_2 2 rfl rfl)
theorem dX1_begins_51 : decode cX1_begins 51 = .ok (.aload_n 0, 1) := dk_42 (dk_at dksX1_begins_2 5 rfl rfl)
theorem dX1_begins_52 : decode cX1_begins 52 = .ok (.iconst 0, 1) := dk_3 (dk_at dksX1_begins_2 6 rfl rfl)
theorem dX1_begins_53 : decode cX1_begins 53 = .ok (.putfield 109, 3) := dk_181 0 109 (dk_at dksX1_begins_2 7 rfl rfl)
theorem dX1_begins_56 : decode cX1_begins 56 = .ok (.return_, 1) := dk_177 (dk_at dksX1_begins_2 10 rfl rfl)
abbrev cX1_feed : ByteArray := prog_1_method_15_code
def yX1_feed : MethodName := ⟨RX1, "feed", "(IIIII)I"⟩
def dkwX1_feed_2 : List UInt8 := [172]
abbrev dktX1_feed_2 : List UInt8 := dkwX1_feed_2 ++ []
def dkwX1_feed_1 : List UInt8 := [182, 0, 161, 42, 29, 182, 0, 161, 42, 21, 4, 182, 0, 161, 42, 21, 5, 182, 0, 161, 42, 180, 0, 158]
abbrev dktX1_feed_1 : List UInt8 := dkwX1_feed_1 ++ dktX1_feed_2
def dkwX1_feed_0 : List UInt8 := [42, 180, 0, 158, 16, 20, 96, 17, 2, 88, 164, 0, 5, 2, 172, 42, 27, 182, 0, 161, 42, 28]
abbrev dktX1_feed_0 : List UInt8 := dkwX1_feed_0 ++ dktX1_feed_1
theorem dksX1_feed_0 : cX1_feed.data.toList.drop 0 = dktX1_feed_0 := by decide +kernel
theorem dksX1_feed_1 : cX1_feed.data.toList.drop 22 = dktX1_feed_1 := dk_seg dksX1_feed_0 22 rfl rfl
theorem dksX1_feed_2 : cX1_feed.data.toList.drop 46 = dktX1_feed_2 := dk_seg dksX1_feed_1 24 rfl rfl
theorem dX1_feed_0 : decode cX1_feed 0 = .ok (.aload_n 0, 1) := dk_42 (dk_at dksX1_feed_0 0 rfl rfl)
theorem dX1_feed_1 : decode cX1_feed 1 = .ok (.getfield 158, 3) := dk_180 0 158 (dk_at dksX1_feed_0 1 rfl rfl)
theorem dX1_feed_4 : decode cX1_feed 4 = .ok (.bipush 20, 2) := dk_16 20 (dk_at dksX1_feed_0 4 rfl rfl)
theorem dX1_feed_6 : decode cX1_feed 6 = .ok (.iadd, 1) := dk_96 (dk_at dksX1_feed_0 6 rfl rfl)
theorem dX1_feed_7 : decode cX1_feed 7 = .ok (.sipush 600, 3) := dk_17 2 88 (dk_at dksX1_feed_0 7 rfl rfl)
theorem dX1_feed_10 : decode cX1_feed 10 = .ok (.if_icmp .le 5, 3) := dk_164 0 5 (dk_at dksX1_feed_0 10 rfl rfl)
theorem dX1_feed_13 : decode cX1_feed 13 = .ok (.iconst (-1), 1) := dk_2 (dk_at dksX1_feed_0 13 rfl rfl)
theorem dX1_feed_14 : decode cX1_feed 14 = .ok (.ireturn, 1) := dk_172 (dk_at dksX1_feed_0 14 rfl rfl)
theorem dX1_feed_15 : decode cX1_feed 15 = .ok (.aload_n 0, 1) := dk_42 (dk_at dksX1_feed_0 15 rfl rfl)
theorem dX1_feed_16 : decode cX1_feed 16 = .ok (.iload_n 1, 1) := dk_27 (dk_at dksX1_feed_0 16 rfl rfl)
theorem dX1_feed_17 : decode cX1_feed 17 = .ok (.invokevirtual 161, 3) := dk_182 0 161 (dk_at dksX1_feed_0 17 rfl rfl)
theorem dX1_feed_20 : decode cX1_feed 20 = .ok (.aload_n 0, 1) := dk_42 (dk_at dksX1_feed_0 20 rfl rfl)
theorem dX1_feed_21 : decode cX1_feed 21 = .ok (.iload_n 2, 1) := dk_28 (dk_at dksX1_feed_0 21 rfl rfl)
theorem dX1_feed_22 : decode cX1_feed 22 = .ok (.invokevirtual 161, 3) := dk_182 0 161 (dk_at dksX1_feed_1 0 rfl rfl)
theorem dX1_feed_25 : decode cX1_feed 25 = .ok (.aload_n 0, 1) := dk_42 (dk_at dksX1_feed_1 3 rfl rfl)
theorem dX1_feed_26 : decode cX1_feed 26 = .ok (.iload_n 3, 1) := dk_29 (dk_at dksX1_feed_1 4 rfl rfl)
theorem dX1_feed_27 : decode cX1_feed 27 = .ok (.invokevirtual 161, 3) := dk_182 0 161 (dk_at dksX1_feed_1 5 rfl rfl)
theorem dX1_feed_30 : decode cX1_feed 30 = .ok (.aload_n 0, 1) := dk_42 (dk_at dksX1_feed_1 8 rfl rfl)
theorem dX1_feed_31 : decode cX1_feed 31 = .ok (.iload 4, 2) := dk_21 4 (dk_at dksX1_feed_1 9 rfl rfl)
theorem dX1_feed_33 : decode cX1_feed 33 = .ok (.invokevirtual 161, 3) := dk_182 0 161 (dk_at dksX1_feed_1 11 rfl rfl)
theorem dX1_feed_36 : decode cX1_feed 36 = .ok (.aload_n 0, 1) := dk_42 (dk_at dksX1_feed_1 14 rfl rfl)
theorem dX1_feed_37 : decode cX1_feed 37 = .ok (.iload 5, 2) := dk_21 5 (dk_at dksX1_feed_1 15 rfl rfl)
theorem dX1_feed_39 : decode cX1_feed 39 = .ok (.invokevirtual 161, 3) := dk_182 0 161 (dk_at dksX1_feed_1 17 rfl rfl)
theorem dX1_feed_42 : decode cX1_feed 42 = .ok (.aload_n 0, 1) := dk_42 (dk_at dksX1_feed_1 20 rfl rfl)
theorem dX1_feed_43 : decode cX1_feed 43 = .ok (.getfield 158, 3) := dk_180 0 158 (dk_at dksX1_feed_1 21 rfl rfl)
theorem dX1_feed_46 : decode cX1_feed 46 = .ok (.ireturn, 1) := dk_172 (dk_at dksX1_feed_2 0 rfl rfl)
abbrev cX1_put : ByteArray := prog_1_method_16_code
def yX1_put : MethodName := ⟨RX1, "put", "(I)V"⟩
def dkwX1_put_1 : List UInt8 := [180, 0, 158, 4, 96, 181, 0, 158, 132, 2, 248, 167, 255, 226, 177]
abbrev dktX1_put_1 : List UInt8 := dkwX1_put_1 ++ []
def dkwX1_put_0 : List UInt8 := [16, 24, 61, 28, 155, 0, 32, 42, 180, 0, 73, 42, 180, 0, 158, 27, 28, 122, 145, 84, 42, 89]
abbrev dktX1_put_0 : List UInt8 := dkwX1_put_0 ++ dktX1_put_1
theorem dksX1_put_0 : cX1_put.data.toList.drop 0 = dktX1_put_0 := by decide +kernel
theorem dksX1_put_1 : cX1_put.data.toList.drop 22 = dktX1_put_1 := dk_seg dksX1_put_0 22 rfl rfl
theorem dX1_put_0 : decode cX1_put 0 = .ok (.bipush 24, 2) := dk_16 24 (dk_at dksX1_put_0 0 rfl rfl)
theorem dX1_put_2 : decode cX1_put 2 = .ok (.istore_n 2, 1) := dk_61 (dk_at dksX1_put_0 2 rfl rfl)
theorem dX1_put_3 : decode cX1_put 3 = .ok (.iload_n 2, 1) := dk_28 (dk_at dksX1_put_0 3 rfl rfl)
theorem dX1_put_4 : decode cX1_put 4 = .ok (.ifCond .lt 32, 3) := dk_155 0 32 (dk_at dksX1_put_0 4 rfl rfl)
theorem dX1_put_7 : decode cX1_put 7 = .ok (.aload_n 0, 1) := dk_42 (dk_at dksX1_put_0 7 rfl rfl)
theorem dX1_put_8 : decode cX1_put 8 = .ok (.getfield 73, 3) := dk_180 0 73 (dk_at dksX1_put_0 8 rfl rfl)
theorem dX1_put_11 : decode cX1_put 11 = .ok (.aload_n 0, 1) := dk_42 (dk_at dksX1_put_0 11 rfl rfl)
theorem dX1_put_12 : decode cX1_put 12 = .ok (.getfield 158, 3) := dk_180 0 158 (dk_at dksX1_put_0 12 rfl rfl)
theorem dX1_put_15 : decode cX1_put 15 = .ok (.iload_n 1, 1) := dk_27 (dk_at dksX1_put_0 15 rfl rfl)
theorem dX1_put_16 : decode cX1_put 16 = .ok (.iload_n 2, 1) := dk_28 (dk_at dksX1_put_0 16 rfl rfl)
theorem dX1_put_17 : decode cX1_put 17 = .ok (.ishr, 1) := dk_122 (dk_at dksX1_put_0 17 rfl rfl)
theorem dX1_put_18 : decode cX1_put 18 = .ok (.i2b, 1) := dk_145 (dk_at dksX1_put_0 18 rfl rfl)
theorem dX1_put_19 : decode cX1_put 19 = .ok (.bastore, 1) := dk_84 (dk_at dksX1_put_0 19 rfl rfl)
theorem dX1_put_20 : decode cX1_put 20 = .ok (.aload_n 0, 1) := dk_42 (dk_at dksX1_put_0 20 rfl rfl)
theorem dX1_put_21 : decode cX1_put 21 = .ok (.dup, 1) := dk_89 (dk_at dksX1_put_0 21 rfl rfl)
theorem dX1_put_22 : decode cX1_put 22 = .ok (.getfield 158, 3) := dk_180 0 158 (dk_at dksX1_put_1 0 rfl rfl)
theorem dX1_put_25 : decode cX1_put 25 = .ok (.iconst 1, 1) := dk_4 (dk_at dksX1_put_1 3 rfl rfl)
theorem dX1_put_26 : decode cX1_put 26 = .ok (.iadd, 1) := dk_96 (dk_at dksX1_put_1 4 rfl rfl)
theorem dX1_put_27 : decode cX1_put 27 = .ok (.putfield 158, 3) := dk_181 0 158 (dk_at dksX1_put_1 5 rfl rfl)
theorem dX1_put_30 : decode cX1_put 30 = .ok (.iinc 2 (-8), 3) := dk_132 2 248 (dk_at dksX1_put_1 8 rfl rfl)
theorem dX1_put_33 : decode cX1_put 33 = .ok (.goto (-30), 3) := dk_167 255 226 (dk_at dksX1_put_1 11 rfl rfl)
theorem dX1_put_36 : decode cX1_put 36 = .ok (.return_, 1) := dk_177 (dk_at dksX1_put_1 14 rfl rfl)
abbrev cX1_fault : ByteArray := prog_1_method_22_code
def yX1_fault : MethodName := ⟨RX1, "fault", "()I"⟩
theorem dX1_fault_0 : decode cX1_fault 0 = .ok (.aload_n 0, 1) := by decide +kernel
theorem dX1_fault_1 : decode cX1_fault 1 = .ok (.getfield 69, 3) := by decide +kernel
theorem dX1_fault_4 : decode cX1_fault 4 = .ok (.ireturn, 1) := by decide +kernel
abbrev cX1_undo : ByteArray := prog_1_method_23_code
def yX1_undo : MethodName := ⟨RX1, "undo", "()I"⟩
def dkwX1_undo_1 : List UInt8 := [180, 0, 56, 42, 180, 0, 100, 50, 182, 0, 235, 87, 42, 3, 181, 0, 103, 42, 180, 0, 100, 172]
abbrev dktX1_undo_1 : List UInt8 := dkwX1_undo_1 ++ []
def dkwX1_undo_0 : List UInt8 := [42, 180, 0, 100, 154, 0, 5, 2, 172, 42, 89, 180, 0, 100, 4, 100, 181, 0, 100, 42, 180, 0, 49, 42]
abbrev dktX1_undo_0 : List UInt8 := dkwX1_undo_0 ++ dktX1_undo_1
theorem dksX1_undo_0 : cX1_undo.data.toList.drop 0 = dktX1_undo_0 := by decide +kernel
theorem dksX1_undo_1 : cX1_undo.data.toList.drop 24 = dktX1_undo_1 := dk_seg dksX1_undo_0 24 rfl rfl
theorem dX1_undo_0 : decode cX1_undo 0 = .ok (.aload_n 0, 1) := dk_42 (dk_at dksX1_undo_0 0 rfl rfl)
theorem dX1_undo_1 : decode cX1_undo 1 = .ok (.getfield 100, 3) := dk_180 0 100 (dk_at dksX1_undo_0 1 rfl rfl)
theorem dX1_undo_4 : decode cX1_undo 4 = .ok (.ifCond .ne 5, 3) := dk_154 0 5 (dk_at dksX1_undo_0 4 rfl rfl)
theorem dX1_undo_7 : decode cX1_undo 7 = .ok (.iconst (-1), 1) := dk_2 (dk_at dksX1_undo_0 7 rfl rfl)
theorem dX1_undo_8 : decode cX1_undo 8 = .ok (.ireturn, 1) := dk_172 (dk_at dksX1_undo_0 8 rfl rfl)
theorem dX1_undo_9 : decode cX1_undo 9 = .ok (.aload_n 0, 1) := dk_42 (dk_at dksX1_undo_0 9 rfl rfl)
theorem dX1_undo_10 : decode cX1_undo 10 = .ok (.dup, 1) := dk_89 (dk_at dksX1_undo_0 10 rfl rfl)
theorem dX1_undo_11 : decode cX1_undo 11 = .ok (.getfield 100, 3) := dk_180 0 100 (dk_at dksX1_undo_0 11 rfl rfl)
theorem dX1_undo_14 : decode cX1_undo 14 = .ok (.iconst 1, 1) := dk_4 (dk_at dksX1_undo_0 14 rfl rfl)
theorem dX1_undo_15 : decode cX1_undo 15 = .ok (.isub, 1) := dk_100 (dk_at dksX1_undo_0 15 rfl rfl)
theorem dX1_undo_16 : decode cX1_undo 16 = .ok (.putfield 100, 3) := dk_181 0 100 (dk_at dksX1_undo_0 16 rfl rfl)
theorem dX1_undo_19 : decode cX1_undo 19 = .ok (.aload_n 0, 1) := dk_42 (dk_at dksX1_undo_0 19 rfl rfl)
theorem dX1_undo_20 : decode cX1_undo 20 = .ok (.getfield 49, 3) := dk_180 0 49 (dk_at dksX1_undo_0 20 rfl rfl)
theorem dX1_undo_23 : decode cX1_undo 23 = .ok (.aload_n 0, 1) := dk_42 (dk_at dksX1_undo_0 23 rfl rfl)
theorem dX1_undo_24 : decode cX1_undo 24 = .ok (.getfield 56, 3) := dk_180 0 56 (dk_at dksX1_undo_1 0 rfl rfl)
theorem dX1_undo_27 : decode cX1_undo 27 = .ok (.aload_n 0, 1) := dk_42 (dk_at dksX1_undo_1 3 rfl rfl)
theorem dX1_undo_28 : decode cX1_undo 28 = .ok (.getfield 100, 3) := dk_180 0 100 (dk_at dksX1_undo_1 4 rfl rfl)
theorem dX1_undo_31 : decode cX1_undo 31 = .ok (.aaload, 1) := dk_50 (dk_at dksX1_undo_1 7 rfl rfl)
theorem dX1_undo_32 : decode cX1_undo 32 = .ok (.invokevirtual 235, 3) := dk_182 0 235 (dk_at dksX1_undo_1 8 rfl rfl)
theorem dX1_undo_35 : decode cX1_undo 35 = .ok (.pop, 1) := dk_87 (dk_at dksX1_undo_1 11 rfl rfl)
theorem dX1_undo_36 : decode cX1_undo 36 = .ok (.aload_n 0, 1) := dk_42 (dk_at dksX1_undo_1 12 rfl rfl)
theorem dX1_undo_37 : decode cX1_undo 37 = .ok (.iconst 0, 1) := dk_3 (dk_at dksX1_undo_1 13 rfl rfl)
theorem dX1_undo_38 : decode cX1_undo 38 = .ok (.putfield 103, 3) := dk_181 0 103 (dk_at dksX1_undo_1 14 rfl rfl)
theorem dX1_undo_41 : decode cX1_undo 41 = .ok (.aload_n 0, 1) := dk_42 (dk_at dksX1_undo_1 17 rfl rfl)
theorem dX1_undo_42 : decode cX1_undo 42 = .ok (.getfield 100, 3) := dk_180 0 100 (dk_at dksX1_undo_1 18 rfl rfl)
theorem dX1_undo_45 : decode cX1_undo 45 = .ok (.ireturn, 1) := dk_172 (dk_at dksX1_undo_1 21 rfl rfl)
abbrev cX1_changed : ByteArray := prog_1_method_38_code
def yX1_changed : MethodName := ⟨RX1, "changed", "()I"⟩
def dkwX1_changed_0 : List UInt8 := [42, 180, 0, 49, 182, 1, 86, 172]
abbrev dktX1_changed_0 : List UInt8 := dkwX1_changed_0 ++ []
theorem dksX1_changed_0 : cX1_changed.data.toList.drop 0 = dktX1_changed_0 := by decide +kernel
theorem dX1_changed_0 : decode cX1_changed 0 = .ok (.aload_n 0, 1) := dk_42 (dk_at dksX1_changed_0 0 rfl rfl)
theorem dX1_changed_1 : decode cX1_changed 1 = .ok (.getfield 49, 3) := dk_180 0 49 (dk_at dksX1_changed_0 1 rfl rfl)
theorem dX1_changed_4 : decode cX1_changed 4 = .ok (.invokevirtual 342, 3) := dk_182 1 86 (dk_at dksX1_changed_0 4 rfl rfl)
theorem dX1_changed_7 : decode cX1_changed 7 = .ok (.ireturn, 1) := dk_172 (dk_at dksX1_changed_0 7 rfl rfl)
abbrev cX1_empty : ByteArray := prog_1_method_40_code
def yX1_empty : MethodName := ⟨RX1, "empty", "()I"⟩
def dkwX1_empty_1 : List UInt8 := [2, 160, 0, 9, 4, 28, 120, 167, 0, 4, 3, 128, 60, 132, 2, 1, 167, 255, 220, 27, 172]
abbrev dktX1_empty_1 : List UInt8 := dkwX1_empty_1 ++ []
def dkwX1_empty_0 : List UInt8 := [3, 60, 3, 61, 28, 42, 180, 0, 22, 180, 0, 149, 162, 0, 31, 27, 42, 180, 0, 49, 28, 182, 1, 24]
abbrev dktX1_empty_0 : List UInt8 := dkwX1_empty_0 ++ dktX1_empty_1
theorem dksX1_empty_0 : cX1_empty.data.toList.drop 0 = dktX1_empty_0 := by decide +kernel
theorem dksX1_empty_1 : cX1_empty.data.toList.drop 24 = dktX1_empty_1 := dk_seg dksX1_empty_0 24 rfl rfl
theorem dX1_empty_0 : decode cX1_empty 0 = .ok (.iconst 0, 1) := dk_3 (dk_at dksX1_empty_0 0 rfl rfl)
theorem dX1_empty_1 : decode cX1_empty 1 = .ok (.istore_n 1, 1) := dk_60 (dk_at dksX1_empty_0 1 rfl rfl)
theorem dX1_empty_2 : decode cX1_empty 2 = .ok (.iconst 0, 1) := dk_3 (dk_at dksX1_empty_0 2 rfl rfl)
theorem dX1_empty_3 : decode cX1_empty 3 = .ok (.istore_n 2, 1) := dk_61 (dk_at dksX1_empty_0 3 rfl rfl)
theorem dX1_empty_4 : decode cX1_empty 4 = .ok (.iload_n 2, 1) := dk_28 (dk_at dksX1_empty_0 4 rfl rfl)
theorem dX1_empty_5 : decode cX1_empty 5 = .ok (.aload_n 0, 1) := dk_42 (dk_at dksX1_empty_0 5 rfl rfl)
theorem dX1_empty_6 : decode cX1_empty 6 = .ok (.getfield 22, 3) := dk_180 0 22 (dk_at dksX1_empty_0 6 rfl rfl)
theorem dX1_empty_9 : decode cX1_empty 9 = .ok (.getfield 149, 3) := dk_180 0 149 (dk_at dksX1_empty_0 9 rfl rfl)
theorem dX1_empty_12 : decode cX1_empty 12 = .ok (.if_icmp .ge 31, 3) := dk_162 0 31 (dk_at dksX1_empty_0 12 rfl rfl)
theorem dX1_empty_15 : decode cX1_empty 15 = .ok (.iload_n 1, 1) := dk_27 (dk_at dksX1_empty_0 15 rfl rfl)
theorem dX1_empty_16 : decode cX1_empty 16 = .ok (.aload_n 0, 1) := dk_42 (dk_at dksX1_empty_0 16 rfl rfl)
theorem dX1_empty_17 : decode cX1_empty 17 = .ok (.getfield 49, 3) := dk_180 0 49 (dk_at dksX1_empty_0 17 rfl rfl)
theorem dX1_empty_20 : decode cX1_empty 20 = .ok (.iload_n 2, 1) := dk_28 (dk_at dksX1_empty_0 20 rfl rfl)
theorem dX1_empty_21 : decode cX1_empty 21 = .ok (.invokevirtual 280, 3) := dk_182 1 24 (dk_at dksX1_empty_0 21 rfl rfl)
theorem dX1_empty_24 : decode cX1_empty 24 = .ok (.iconst (-1), 1) := dk_2 (dk_at dksX1_empty_1 0 rfl rfl)
theorem dX1_empty_25 : decode cX1_empty 25 = .ok (.if_icmp .ne 9, 3) := dk_160 0 9 (dk_at dksX1_empty_1 1 rfl rfl)
theorem dX1_empty_28 : decode cX1_empty 28 = .ok (.iconst 1, 1) := dk_4 (dk_at dksX1_empty_1 4 rfl rfl)
theorem dX1_empty_29 : decode cX1_empty 29 = .ok (.iload_n 2, 1) := dk_28 (dk_at dksX1_empty_1 5 rfl rfl)
theorem dX1_empty_30 : decode cX1_empty 30 = .ok (.ishl, 1) := dk_120 (dk_at dksX1_empty_1 6 rfl rfl)
theorem dX1_empty_31 : decode cX1_empty 31 = .ok (.goto 4, 3) := dk_167 0 4 (dk_at dksX1_empty_1 7 rfl rfl)
theorem dX1_empty_34 : decode cX1_empty 34 = .ok (.iconst 0, 1) := dk_3 (dk_at dksX1_empty_1 10 rfl rfl)
theorem dX1_empty_35 : decode cX1_empty 35 = .ok (.ior, 1) := dk_128 (dk_at dksX1_empty_1 11 rfl rfl)
theorem dX1_empty_36 : decode cX1_empty 36 = .ok (.istore_n 1, 1) := dk_60 (dk_at dksX1_empty_1 12 rfl rfl)
theorem dX1_empty_37 : decode cX1_empty 37 = .ok (.iinc 2 1, 3) := dk_132 2 1 (dk_at dksX1_empty_1 13 rfl rfl)
theorem dX1_empty_40 : decode cX1_empty 40 = .ok (.goto (-36), 3) := dk_167 255 220 (dk_at dksX1_empty_1 16 rfl rfl)
theorem dX1_empty_43 : decode cX1_empty 43 = .ok (.iload_n 1, 1) := dk_27 (dk_at dksX1_empty_1 19 rfl rfl)
theorem dX1_empty_44 : decode cX1_empty 44 = .ok (.ireturn, 1) := dk_172 (dk_at dksX1_empty_1 20 rfl rfl)
abbrev cX1_pianos : ByteArray := prog_1_method_4_code
def yX1_pianos : MethodName := ⟨RX1, "pianos", "()I"⟩
def dkwX1_pianos_0 : List UInt8 := [42, 180, 0, 22, 180, 0, 112, 182, 0, 116, 172]
abbrev dktX1_pianos_0 : List UInt8 := dkwX1_pianos_0 ++ []
theorem dksX1_pianos_0 : cX1_pianos.data.toList.drop 0 = dktX1_pianos_0 := by decide +kernel
theorem dX1_pianos_0 : decode cX1_pianos 0 = .ok (.aload_n 0, 1) := dk_42 (dk_at dksX1_pianos_0 0 rfl rfl)
theorem dX1_pianos_1 : decode cX1_pianos 1 = .ok (.getfield 22, 3) := dk_180 0 22 (dk_at dksX1_pianos_0 1 rfl rfl)
theorem dX1_pianos_4 : decode cX1_pianos 4 = .ok (.getfield 112, 3) := dk_180 0 112 (dk_at dksX1_pianos_0 4 rfl rfl)
theorem dX1_pianos_7 : decode cX1_pianos 7 = .ok (.invokevirtual 116, 3) := dk_182 0 116 (dk_at dksX1_pianos_0 7 rfl rfl)
theorem dX1_pianos_10 : decode cX1_pianos 10 = .ok (.ireturn, 1) := dk_172 (dk_at dksX1_pianos_0 10 rfl rfl)
abbrev cX1_places : ByteArray := prog_1_method_46_code
def yX1_places : MethodName := ⟨RX1, "places", "()I"⟩
def dkwX1_places_0 : List UInt8 := [42, 182, 1, 105, 42, 180, 1, 96, 172]
abbrev dktX1_places_0 : List UInt8 := dkwX1_places_0 ++ []
theorem dksX1_places_0 : cX1_places.data.toList.drop 0 = dktX1_places_0 := by decide +kernel
theorem dX1_places_0 : decode cX1_places 0 = .ok (.aload_n 0, 1) := dk_42 (dk_at dksX1_places_0 0 rfl rfl)
theorem dX1_places_1 : decode cX1_places 1 = .ok (.invokevirtual 361, 3) := dk_182 1 105 (dk_at dksX1_places_0 1 rfl rfl)
theorem dX1_places_4 : decode cX1_places 4 = .ok (.aload_n 0, 1) := dk_42 (dk_at dksX1_places_0 4 rfl rfl)
theorem dX1_places_5 : decode cX1_places 5 = .ok (.getfield 352, 3) := dk_180 1 96 (dk_at dksX1_places_0 5 rfl rfl)
theorem dX1_places_8 : decode cX1_places 8 = .ok (.ireturn, 1) := dk_172 (dk_at dksX1_places_0 8 rfl rfl)
abbrev cX1_findPlaces : ByteArray := prog_1_method_45_code
def yX1_findPlaces : MethodName := ⟨RX1, "findPlaces", "()V"⟩
def dkwX1_findPlaces_1 : List UInt8 := [167, 255, 240, 42, 3, 3, 182, 1, 102, 177]
abbrev dktX1_findPlaces_1 : List UInt8 := dkwX1_findPlaces_1 ++ []
def dkwX1_findPlaces_0 : List UInt8 := [42, 2, 181, 1, 96, 3, 60, 27, 16, 6, 162, 0, 16, 42, 180, 0, 80, 27, 2, 79, 132, 1, 1]
abbrev dktX1_findPlaces_0 : List UInt8 := dkwX1_findPlaces_0 ++ dktX1_findPlaces_1
theorem dksX1_findPlaces_0 : cX1_findPlaces.data.toList.drop 0 = dktX1_findPlaces_0 := by decide +kernel
theorem dksX1_findPlaces_1 : cX1_findPlaces.data.toList.drop 23 = dktX1_findPlaces_1 := dk_seg dksX1_findPlaces_0 23 rfl rfl
theorem dX1_findPlaces_0 : decode cX1_findPlaces 0 = .ok (.aload_n 0, 1) := dk_42 (dk_at dksX1_findPlaces_0 0 rfl rfl)
theorem dX1_findPlaces_1 : decode cX1_findPlaces 1 = .ok (.iconst (-1), 1) := dk_2 (dk_at dksX1_findPlaces_0 1 rfl rfl)
theorem dX1_findPlaces_2 : decode cX1_findPlaces 2 = .ok (.putfield 352, 3) := dk_181 1 96 (dk_at dksX1_findPlaces_0 2 rfl rfl)
theorem dX1_findPlaces_5 : decode cX1_findPlaces 5 = .ok (.iconst 0, 1) := dk_3 (dk_at dksX1_findPlaces_0 5 rfl rfl)
theorem dX1_findPlaces_6 : decode cX1_findPlaces 6 = .ok (.istore_n 1, 1) := dk_60 (dk_at dksX1_findPlaces_0 6 rfl rfl)
theorem dX1_findPlaces_7 : decode cX1_findPlaces 7 = .ok (.iload_n 1, 1) := dk_27 (dk_at dksX1_findPlaces_0 7 rfl rfl)
theorem dX1_findPlaces_8 : decode cX1_findPlaces 8 = .ok (.bipush 6, 2) := dk_16 6 (dk_at dksX1_findPlaces_0 8 rfl rfl)
theorem dX1_findPlaces_10 : decode cX1_findPlaces 10 = .ok (.if_icmp .ge 16, 3) := dk_162 0 16 (dk_at dksX1_findPlaces_0 10 rfl rfl)
theorem dX1_findPlaces_13 : decode cX1_findPlaces 13 = .ok (.aload_n 0, 1) := dk_42 (dk_at dksX1_findPlaces_0 13 rfl rfl)
theorem dX1_findPlaces_14 : decode cX1_findPlaces 14 = .ok (.getfield 80, 3) := dk_180 0 80 (dk_at dksX1_findPlaces_0 14 rfl rfl)
theorem dX1_findPlaces_17 : decode cX1_findPlaces 17 = .ok (.iload_n 1, 1) := dk_27 (dk_at dksX1_findPlaces_0 17 rfl rfl)
theorem dX1_findPlaces_18 : decode cX1_findPlaces 18 = .ok (.iconst (-1), 1) := dk_2 (dk_at dksX1_findPlaces_0 18 rfl rfl)
theorem dX1_findPlaces_19 : decode cX1_findPlaces 19 = .ok (.iastore, 1) := dk_79 (dk_at dksX1_findPlaces_0 19 rfl rfl)
theorem dX1_findPlaces_20 : decode cX1_findPlaces 20 = .ok (.iinc 1 1, 3) := dk_132 1 1 (dk_at dksX1_findPlaces_0 20 rfl rfl)
theorem dX1_findPlaces_23 : decode cX1_findPlaces 23 = .ok (.goto (-16), 3) := dk_167 255 240 (dk_at dksX1_findPlaces_1 0 rfl rfl)
theorem dX1_findPlaces_26 : decode cX1_findPlaces 26 = .ok (.aload_n 0, 1) := dk_42 (dk_at dksX1_findPlaces_1 3 rfl rfl)
theorem dX1_findPlaces_27 : decode cX1_findPlaces 27 = .ok (.iconst 0, 1) := dk_3 (dk_at dksX1_findPlaces_1 4 rfl rfl)
theorem dX1_findPlaces_28 : decode cX1_findPlaces 28 = .ok (.iconst 0, 1) := dk_3 (dk_at dksX1_findPlaces_1 5 rfl rfl)
theorem dX1_findPlaces_29 : decode cX1_findPlaces 29 = .ok (.invokevirtual 358, 3) := dk_182 1 102 (dk_at dksX1_findPlaces_1 6 rfl rfl)
theorem dX1_findPlaces_32 : decode cX1_findPlaces 32 = .ok (.return_, 1) := dk_177 (dk_at dksX1_findPlaces_1 9 rfl rfl)
abbrev cX1_placesOn : ByteArray := prog_1_method_44_code
def yX1_placesOn : MethodName := ⟨RX1, "placesOn", "(II)V"⟩
def dkwX1_placesOn_5 : List UInt8 := [177]
abbrev dktX1_placesOn_5 : List UInt8 := dkwX1_placesOn_5 ++ []
def dkwX1_placesOn_4 : List UInt8 := [182, 1, 52, 180, 1, 56, 160, 0, 7, 4, 167, 0, 4, 3, 96, 182, 1, 102, 132, 3, 1, 167, 255, 189]
abbrev dktX1_placesOn_4 : List UInt8 := dkwX1_placesOn_4 ++ dktX1_placesOn_5
def dkwX1_placesOn_3 : List UInt8 := [180, 0, 77, 27, 29, 79, 42, 27, 4, 96, 28, 42, 180, 0, 22, 180, 1, 6, 29, 46, 42, 27]
abbrev dktX1_placesOn_3 : List UInt8 := dkwX1_placesOn_3 ++ dktX1_placesOn_4
def dkwX1_placesOn_2 : List UInt8 := [42, 180, 0, 22, 180, 0, 149, 162, 0, 62, 42, 27, 29, 182, 1, 99, 154, 0, 6, 167, 0, 44, 42]
abbrev dktX1_placesOn_2 : List UInt8 := dkwX1_placesOn_2 ++ dktX1_placesOn_3
def dkwX1_placesOn_1 : List UInt8 := [42, 28, 181, 1, 96, 42, 180, 0, 77, 3, 42, 180, 0, 80, 3, 16, 6, 184, 0, 226, 177, 3, 62, 29]
abbrev dktX1_placesOn_1 : List UInt8 := dkwX1_placesOn_1 ++ dktX1_placesOn_2
def dkwX1_placesOn_0 : List UInt8 := [28, 42, 182, 0, 156, 96, 27, 100, 42, 180, 1, 96, 163, 0, 4, 177, 27, 42, 182, 0, 156, 160, 0, 24]
abbrev dktX1_placesOn_0 : List UInt8 := dkwX1_placesOn_0 ++ dktX1_placesOn_1
theorem dksX1_placesOn_0 : cX1_placesOn.data.toList.drop 0 = dktX1_placesOn_0 := by decide +kernel
theorem dksX1_placesOn_1 : cX1_placesOn.data.toList.drop 24 = dktX1_placesOn_1 := dk_seg dksX1_placesOn_0 24 rfl rfl
theorem dksX1_placesOn_2 : cX1_placesOn.data.toList.drop 48 = dktX1_placesOn_2 := dk_seg dksX1_placesOn_1 24 rfl rfl
theorem dksX1_placesOn_3 : cX1_placesOn.data.toList.drop 71 = dktX1_placesOn_3 := dk_seg dksX1_placesOn_2 23 rfl rfl
theorem dksX1_placesOn_4 : cX1_placesOn.data.toList.drop 93 = dktX1_placesOn_4 := dk_seg dksX1_placesOn_3 22 rfl rfl
theorem dksX1_placesOn_5 : cX1_placesOn.data.toList.drop 117 = dktX1_placesOn_5 := dk_seg dksX1_placesOn_4 24 rfl rfl
theorem dX1_placesOn_0 : decode cX1_placesOn 0 = .ok (.iload_n 2, 1) := dk_28 (dk_at dksX1_placesOn_0 0 rfl rfl)
theorem dX1_placesOn_1 : decode cX1_placesOn 1 = .ok (.aload_n 0, 1) := dk_42 (dk_at dksX1_placesOn_0 1 rfl rfl)
theorem dX1_placesOn_2 : decode cX1_placesOn 2 = .ok (.invokevirtual 156, 3) := dk_182 0 156 (dk_at dksX1_placesOn_0 2 rfl rfl)
theorem dX1_placesOn_5 : decode cX1_placesOn 5 = .ok (.iadd, 1) := dk_96 (dk_at dksX1_placesOn_0 5 rfl rfl)
theorem dX1_placesOn_6 : decode cX1_placesOn 6 = .ok (.iload_n 1, 1) := dk_27 (dk_at dksX1_placesOn_0 6 rfl rfl)
theorem dX1_placesOn_7 : decode cX1_placesOn 7 = .ok (.isub, 1) := dk_100 (dk_at dksX1_placesOn_0 7 rfl rfl)
theorem dX1_placesOn_8 : decode cX1_placesOn 8 = .ok (.aload_n 0, 1) := dk_42 (dk_at dksX1_placesOn_0 8 rfl rfl)
theorem dX1_placesOn_9 : decode cX1_placesOn 9 = .ok (.getfield 352, 3) := dk_180 1 96 (dk_at dksX1_placesOn_0 9 rfl rfl)
theorem dX1_placesOn_12 : decode cX1_placesOn 12 = .ok (.if_icmp .gt 4, 3) := dk_163 0 4 (dk_at dksX1_placesOn_0 12 rfl rfl)
theorem dX1_placesOn_15 : decode cX1_placesOn 15 = .ok (.return_, 1) := dk_177 (dk_at dksX1_placesOn_0 15 rfl rfl)
theorem dX1_placesOn_16 : decode cX1_placesOn 16 = .ok (.iload_n 1, 1) := dk_27 (dk_at dksX1_placesOn_0 16 rfl rfl)
theorem dX1_placesOn_17 : decode cX1_placesOn 17 = .ok (.aload_n 0, 1) := dk_42 (dk_at dksX1_placesOn_0 17 rfl rfl)
theorem dX1_placesOn_18 : decode cX1_placesOn 18 = .ok (.invokevirtual 156, 3) := dk_182 0 156 (dk_at dksX1_placesOn_0 18 rfl rfl)
theorem dX1_placesOn_21 : decode cX1_placesOn 21 = .ok (.if_icmp .ne 24, 3) := dk_160 0 24 (dk_at dksX1_placesOn_0 21 rfl rfl)
theorem dX1_placesOn_24 : decode cX1_placesOn 24 = .ok (.aload_n 0, 1) := dk_42 (dk_at dksX1_placesOn_1 0 rfl rfl)
theorem dX1_placesOn_25 : decode cX1_placesOn 25 = .ok (.iload_n 2, 1) := dk_28 (dk_at dksX1_placesOn_1 1 rfl rfl)
theorem dX1_placesOn_26 : decode cX1_placesOn 26 = .ok (.putfield 352, 3) := dk_181 1 96 (dk_at dksX1_placesOn_1 2 rfl rfl)
theorem dX1_placesOn_29 : decode cX1_placesOn 29 = .ok (.aload_n 0, 1) := dk_42 (dk_at dksX1_placesOn_1 5 rfl rfl)
theorem dX1_placesOn_30 : decode cX1_placesOn 30 = .ok (.getfield 77, 3) := dk_180 0 77 (dk_at dksX1_placesOn_1 6 rfl rfl)
theorem dX1_placesOn_33 : decode cX1_placesOn 33 = .ok (.iconst 0, 1) := dk_3 (dk_at dksX1_placesOn_1 9 rfl rfl)
theorem dX1_placesOn_34 : decode cX1_placesOn 34 = .ok (.aload_n 0, 1) := dk_42 (dk_at dksX1_placesOn_1 10 rfl rfl)
theorem dX1_placesOn_35 : decode cX1_placesOn 35 = .ok (.getfield 80, 3) := dk_180 0 80 (dk_at dksX1_placesOn_1 11 rfl rfl)
theorem dX1_placesOn_38 : decode cX1_placesOn 38 = .ok (.iconst 0, 1) := dk_3 (dk_at dksX1_placesOn_1 14 rfl rfl)
theorem dX1_placesOn_39 : decode cX1_placesOn 39 = .ok (.bipush 6, 2) := dk_16 6 (dk_at dksX1_placesOn_1 15 rfl rfl)
theorem dX1_placesOn_41 : decode cX1_placesOn 41 = .ok (.invokestatic 226, 3) := dk_184 0 226 (dk_at dksX1_placesOn_1 17 rfl rfl)
theorem dX1_placesOn_44 : decode cX1_placesOn 44 = .ok (.return_, 1) := dk_177 (dk_at dksX1_placesOn_1 20 rfl rfl)
theorem dX1_placesOn_45 : decode cX1_placesOn 45 = .ok (.iconst 0, 1) := dk_3 (dk_at dksX1_placesOn_1 21 rfl rfl)
theorem dX1_placesOn_46 : decode cX1_placesOn 46 = .ok (.istore_n 3, 1) := dk_62 (dk_at dksX1_placesOn_1 22 rfl rfl)
theorem dX1_placesOn_47 : decode cX1_placesOn 47 = .ok (.iload_n 3, 1) := dk_29 (dk_at dksX1_placesOn_1 23 rfl rfl)
theorem dX1_placesOn_48 : decode cX1_placesOn 48 = .ok (.aload_n 0, 1) := dk_42 (dk_at dksX1_placesOn_2 0 rfl rfl)
theorem dX1_placesOn_49 : decode cX1_placesOn 49 = .ok (.getfield 22, 3) := dk_180 0 22 (dk_at dksX1_placesOn_2 1 rfl rfl)
theorem dX1_placesOn_52 : decode cX1_placesOn 52 = .ok (.getfield 149, 3) := dk_180 0 149 (dk_at dksX1_placesOn_2 4 rfl rfl)
theorem dX1_placesOn_55 : decode cX1_placesOn 55 = .ok (.if_icmp .ge 62, 3) := dk_162 0 62 (dk_at dksX1_placesOn_2 7 rfl rfl)
theorem dX1_placesOn_58 : decode cX1_placesOn 58 = .ok (.aload_n 0, 1) := dk_42 (dk_at dksX1_placesOn_2 10 rfl rfl)
theorem dX1_placesOn_59 : decode cX1_placesOn 59 = .ok (.iload_n 1, 1) := dk_27 (dk_at dksX1_placesOn_2 11 rfl rfl)
theorem dX1_placesOn_60 : decode cX1_placesOn 60 = .ok (.iload_n 3, 1) := dk_29 (dk_at dksX1_placesOn_2 12 rfl rfl)
theorem dX1_placesOn_61 : decode cX1_placesOn 61 = .ok (.invokevirtual 355, 3) := dk_182 1 99 (dk_at dksX1_placesOn_2 13 rfl rfl)
theorem dX1_placesOn_64 : decode cX1_placesOn 64 = .ok (.ifCond .ne 6, 3) := dk_154 0 6 (dk_at dksX1_placesOn_2 16 rfl rfl)
theorem dX1_placesOn_67 : decode cX1_placesOn 67 = .ok (.goto 44, 3) := dk_167 0 44 (dk_at dksX1_placesOn_2 19 rfl rfl)
theorem dX1_placesOn_70 : decode cX1_placesOn 70 = .ok (.aload_n 0, 1) := dk_42 (dk_at dksX1_placesOn_2 22 rfl rfl)
theorem dX1_placesOn_71 : decode cX1_placesOn 71 = .ok (.getfield 77, 3) := dk_180 0 77 (dk_at dksX1_placesOn_3 0 rfl rfl)
theorem dX1_placesOn_74 : decode cX1_placesOn 74 = .ok (.iload_n 1, 1) := dk_27 (dk_at dksX1_placesOn_3 3 rfl rfl)
theorem dX1_placesOn_75 : decode cX1_placesOn 75 = .ok (.iload_n 3, 1) := dk_29 (dk_at dksX1_placesOn_3 4 rfl rfl)
theorem dX1_placesOn_76 : decode cX1_placesOn 76 = .ok (.iastore, 1) := dk_79 (dk_at dksX1_placesOn_3 5 rfl rfl)
theorem dX1_placesOn_77 : decode cX1_placesOn 77 = .ok (.aload_n 0, 1) := dk_42 (dk_at dksX1_placesOn_3 6 rfl rfl)
theorem dX1_placesOn_78 : decode cX1_placesOn 78 = .ok (.iload_n 1, 1) := dk_27 (dk_at dksX1_placesOn_3 7 rfl rfl)
theorem dX1_placesOn_79 : decode cX1_placesOn 79 = .ok (.iconst 1, 1) := dk_4 (dk_at dksX1_placesOn_3 8 rfl rfl)
theorem dX1_placesOn_80 : decode cX1_placesOn 80 = .ok (.iadd, 1) := dk_96 (dk_at dksX1_placesOn_3 9 rfl rfl)
theorem dX1_placesOn_81 : decode cX1_placesOn 81 = .ok (.iload_n 2, 1) := dk_28 (dk_at dksX1_placesOn_3 10 rfl rfl)
theorem dX1_placesOn_82 : decode cX1_placesOn 82 = .ok (.aload_n 0, 1) := dk_42 (dk_at dksX1_placesOn_3 11 rfl rfl)
theorem dX1_placesOn_83 : decode cX1_placesOn 83 = .ok (.getfield 22, 3) := dk_180 0 22 (dk_at dksX1_placesOn_3 12 rfl rfl)
theorem dX1_placesOn_86 : decode cX1_placesOn 86 = .ok (.getfield 262, 3) := dk_180 1 6 (dk_at dksX1_placesOn_3 15 rfl rfl)
theorem dX1_placesOn_89 : decode cX1_placesOn 89 = .ok (.iload_n 3, 1) := dk_29 (dk_at dksX1_placesOn_3 18 rfl rfl)
theorem dX1_placesOn_90 : decode cX1_placesOn 90 = .ok (.iaload, 1) := dk_46 (dk_at dksX1_placesOn_3 19 rfl rfl)
theorem dX1_placesOn_91 : decode cX1_placesOn 91 = .ok (.aload_n 0, 1) := dk_42 (dk_at dksX1_placesOn_3 20 rfl rfl)
theorem dX1_placesOn_92 : decode cX1_placesOn 92 = .ok (.iload_n 1, 1) := dk_27 (dk_at dksX1_placesOn_3 21 rfl rfl)
theorem dX1_placesOn_93 : decode cX1_placesOn 93 = .ok (.invokevirtual 308, 3) := dk_182 1 52 (dk_at dksX1_placesOn_4 0 rfl rfl)
theorem dX1_placesOn_96 : decode cX1_placesOn 96 = .ok (.getfield 312, 3) := dk_180 1 56 (dk_at dksX1_placesOn_4 3 rfl rfl)
theorem dX1_placesOn_99 : decode cX1_placesOn 99 = .ok (.if_icmp .ne 7, 3) := dk_160 0 7 (dk_at dksX1_placesOn_4 6 rfl rfl)
theorem dX1_placesOn_102 : decode cX1_placesOn 102 = .ok (.iconst 1, 1) := dk_4 (dk_at dksX1_placesOn_4 9 rfl rfl)
theorem dX1_placesOn_103 : decode cX1_placesOn 103 = .ok (.goto 4, 3) := dk_167 0 4 (dk_at dksX1_placesOn_4 10 rfl rfl)
theorem dX1_placesOn_106 : decode cX1_placesOn 106 = .ok (.iconst 0, 1) := dk_3 (dk_at dksX1_placesOn_4 13 rfl rfl)
theorem dX1_placesOn_107 : decode cX1_placesOn 107 = .ok (.iadd, 1) := dk_96 (dk_at dksX1_placesOn_4 14 rfl rfl)
theorem dX1_placesOn_108 : decode cX1_placesOn 108 = .ok (.invokevirtual 358, 3) := dk_182 1 102 (dk_at dksX1_placesOn_4 15 rfl rfl)
theorem dX1_placesOn_111 : decode cX1_placesOn 111 = .ok (.iinc 3 1, 3) := dk_132 3 1 (dk_at dksX1_placesOn_4 18 rfl rfl)
theorem dX1_placesOn_114 : decode cX1_placesOn 114 = .ok (.goto (-67), 3) := dk_167 255 189 (dk_at dksX1_placesOn_4 21 rfl rfl)
theorem dX1_placesOn_117 : decode cX1_placesOn 117 = .ok (.return_, 1) := dk_177 (dk_at dksX1_placesOn_5 0 rfl rfl)
abbrev cX1_isPeace : ByteArray := prog_1_method_43_code
def yX1_isPeace : MethodName := ⟨RX1, "isPeace", "(II)Z"⟩
def dkwX1_isPeace_2 : List UInt8 := [182, 1, 52, 180, 1, 56, 159, 0, 5, 3, 172, 132, 3, 1, 167, 255, 196, 4, 172]
abbrev dktX1_isPeace_2 : List UInt8 := dkwX1_isPeace_2 ++ []
def dkwX1_isPeace_1 : List UInt8 := [28, 46, 42, 180, 0, 77, 29, 46, 184, 1, 93, 153, 0, 24, 42, 29, 182, 1, 52, 180, 1, 56, 42, 27]
abbrev dktX1_isPeace_1 : List UInt8 := dkwX1_isPeace_1 ++ dktX1_isPeace_2
def dkwX1_isPeace_0 : List UInt8 := [3, 62, 29, 27, 162, 0, 61, 42, 180, 0, 77, 29, 46, 28, 159, 0, 43, 42, 180, 0, 22, 180, 1, 27]
abbrev dktX1_isPeace_0 : List UInt8 := dkwX1_isPeace_0 ++ dktX1_isPeace_1
theorem dksX1_isPeace_0 : cX1_isPeace.data.toList.drop 0 = dktX1_isPeace_0 := by decide +kernel
theorem dksX1_isPeace_1 : cX1_isPeace.data.toList.drop 24 = dktX1_isPeace_1 := dk_seg dksX1_isPeace_0 24 rfl rfl
theorem dksX1_isPeace_2 : cX1_isPeace.data.toList.drop 48 = dktX1_isPeace_2 := dk_seg dksX1_isPeace_1 24 rfl rfl
theorem dX1_isPeace_0 : decode cX1_isPeace 0 = .ok (.iconst 0, 1) := dk_3 (dk_at dksX1_isPeace_0 0 rfl rfl)
theorem dX1_isPeace_1 : decode cX1_isPeace 1 = .ok (.istore_n 3, 1) := dk_62 (dk_at dksX1_isPeace_0 1 rfl rfl)
theorem dX1_isPeace_2 : decode cX1_isPeace 2 = .ok (.iload_n 3, 1) := dk_29 (dk_at dksX1_isPeace_0 2 rfl rfl)
theorem dX1_isPeace_3 : decode cX1_isPeace 3 = .ok (.iload_n 1, 1) := dk_27 (dk_at dksX1_isPeace_0 3 rfl rfl)
theorem dX1_isPeace_4 : decode cX1_isPeace 4 = .ok (.if_icmp .ge 61, 3) := dk_162 0 61 (dk_at dksX1_isPeace_0 4 rfl rfl)
theorem dX1_isPeace_7 : decode cX1_isPeace 7 = .ok (.aload_n 0, 1) := dk_42 (dk_at dksX1_isPeace_0 7 rfl rfl)
theorem dX1_isPeace_8 : decode cX1_isPeace 8 = .ok (.getfield 77, 3) := dk_180 0 77 (dk_at dksX1_isPeace_0 8 rfl rfl)
theorem dX1_isPeace_11 : decode cX1_isPeace 11 = .ok (.iload_n 3, 1) := dk_29 (dk_at dksX1_isPeace_0 11 rfl rfl)
theorem dX1_isPeace_12 : decode cX1_isPeace 12 = .ok (.iaload, 1) := dk_46 (dk_at dksX1_isPeace_0 12 rfl rfl)
theorem dX1_isPeace_13 : decode cX1_isPeace 13 = .ok (.iload_n 2, 1) := dk_28 (dk_at dksX1_isPeace_0 13 rfl rfl)
theorem dX1_isPeace_14 : decode cX1_isPeace 14 = .ok (.if_icmp .eq 43, 3) := dk_159 0 43 (dk_at dksX1_isPeace_0 14 rfl rfl)
theorem dX1_isPeace_17 : decode cX1_isPeace 17 = .ok (.aload_n 0, 1) := dk_42 (dk_at dksX1_isPeace_0 17 rfl rfl)
theorem dX1_isPeace_18 : decode cX1_isPeace 18 = .ok (.getfield 22, 3) := dk_180 0 22 (dk_at dksX1_isPeace_0 18 rfl rfl)
theorem dX1_isPeace_21 : decode cX1_isPeace 21 = .ok (.getfield 283, 3) := dk_180 1 27 (dk_at dksX1_isPeace_0 21 rfl rfl)
theorem dX1_isPeace_24 : decode cX1_isPeace 24 = .ok (.iload_n 2, 1) := dk_28 (dk_at dksX1_isPeace_1 0 rfl rfl)
theorem dX1_isPeace_25 : decode cX1_isPeace 25 = .ok (.iaload, 1) := dk_46 (dk_at dksX1_isPeace_1 1 rfl rfl)
theorem dX1_isPeace_26 : decode cX1_isPeace 26 = .ok (.aload_n 0, 1) := dk_42 (dk_at dksX1_isPeace_1 2 rfl rfl)
theorem dX1_isPeace_27 : decode cX1_isPeace 27 = .ok (.getfield 77, 3) := dk_180 0 77 (dk_at dksX1_isPeace_1 3 rfl rfl)
theorem dX1_isPeace_30 : decode cX1_isPeace 30 = .ok (.iload_n 3, 1) := dk_29 (dk_at dksX1_isPeace_1 6 rfl rfl)
theorem dX1_isPeace_31 : decode cX1_isPeace 31 = .ok (.iaload, 1) := dk_46 (dk_at dksX1_isPeace_1 7 rfl rfl)
theorem dX1_isPeace_32 : decode cX1_isPeace 32 = .ok (.invokestatic 349, 3) := dk_184 1 93 (dk_at dksX1_isPeace_1 8 rfl rfl)
theorem dX1_isPeace_35 : decode cX1_isPeace 35 = .ok (.ifCond .eq 24, 3) := dk_153 0 24 (dk_at dksX1_isPeace_1 11 rfl rfl)
theorem dX1_isPeace_38 : decode cX1_isPeace 38 = .ok (.aload_n 0, 1) := dk_42 (dk_at dksX1_isPeace_1 14 rfl rfl)
theorem dX1_isPeace_39 : decode cX1_isPeace 39 = .ok (.iload_n 3, 1) := dk_29 (dk_at dksX1_isPeace_1 15 rfl rfl)
theorem dX1_isPeace_40 : decode cX1_isPeace 40 = .ok (.invokevirtual 308, 3) := dk_182 1 52 (dk_at dksX1_isPeace_1 16 rfl rfl)
theorem dX1_isPeace_43 : decode cX1_isPeace 43 = .ok (.getfield 312, 3) := dk_180 1 56 (dk_at dksX1_isPeace_1 19 rfl rfl)
theorem dX1_isPeace_46 : decode cX1_isPeace 46 = .ok (.aload_n 0, 1) := dk_42 (dk_at dksX1_isPeace_1 22 rfl rfl)
theorem dX1_isPeace_47 : decode cX1_isPeace 47 = .ok (.iload_n 1, 1) := dk_27 (dk_at dksX1_isPeace_1 23 rfl rfl)
theorem dX1_isPeace_48 : decode cX1_isPeace 48 = .ok (.invokevirtual 308, 3) := dk_182 1 52 (dk_at dksX1_isPeace_2 0 rfl rfl)
theorem dX1_isPeace_51 : decode cX1_isPeace 51 = .ok (.getfield 312, 3) := dk_180 1 56 (dk_at dksX1_isPeace_2 3 rfl rfl)
theorem dX1_isPeace_54 : decode cX1_isPeace 54 = .ok (.if_icmp .eq 5, 3) := dk_159 0 5 (dk_at dksX1_isPeace_2 6 rfl rfl)
theorem dX1_isPeace_57 : decode cX1_isPeace 57 = .ok (.iconst 0, 1) := dk_3 (dk_at dksX1_isPeace_2 9 rfl rfl)
theorem dX1_isPeace_58 : decode cX1_isPeace 58 = .ok (.ireturn, 1) := dk_172 (dk_at dksX1_isPeace_2 10 rfl rfl)
theorem dX1_isPeace_59 : decode cX1_isPeace 59 = .ok (.iinc 3 1, 3) := dk_132 3 1 (dk_at dksX1_isPeace_2 11 rfl rfl)
theorem dX1_isPeace_62 : decode cX1_isPeace 62 = .ok (.goto (-60), 3) := dk_167 255 196 (dk_at dksX1_isPeace_2 14 rfl rfl)
theorem dX1_isPeace_65 : decode cX1_isPeace 65 = .ok (.iconst 1, 1) := dk_4 (dk_at dksX1_isPeace_2 17 rfl rfl)
theorem dX1_isPeace_66 : decode cX1_isPeace 66 = .ok (.ireturn, 1) := dk_172 (dk_at dksX1_isPeace_2 18 rfl rfl)
abbrev cX1_has : ByteArray := prog_1_method_14_code
def yX1_has : MethodName := ⟨RX1, "has", "(II)Z"⟩
def dkwX1_has_0 : List UInt8 := [26, 27, 122, 4, 126, 4, 160, 0, 7, 4, 167, 0, 4, 3, 172]
abbrev dktX1_has_0 : List UInt8 := dkwX1_has_0 ++ []
theorem dksX1_has_0 : cX1_has.data.toList.drop 0 = dktX1_has_0 := by decide +kernel
theorem dX1_has_0 : decode cX1_has 0 = .ok (.iload_n 0, 1) := dk_26 (dk_at dksX1_has_0 0 rfl rfl)
theorem dX1_has_1 : decode cX1_has 1 = .ok (.iload_n 1, 1) := dk_27 (dk_at dksX1_has_0 1 rfl rfl)
theorem dX1_has_2 : decode cX1_has 2 = .ok (.ishr, 1) := dk_122 (dk_at dksX1_has_0 2 rfl rfl)
theorem dX1_has_3 : decode cX1_has 3 = .ok (.iconst 1, 1) := dk_4 (dk_at dksX1_has_0 3 rfl rfl)
theorem dX1_has_4 : decode cX1_has 4 = .ok (.iand, 1) := dk_126 (dk_at dksX1_has_0 4 rfl rfl)
theorem dX1_has_5 : decode cX1_has 5 = .ok (.iconst 1, 1) := dk_4 (dk_at dksX1_has_0 5 rfl rfl)
theorem dX1_has_6 : decode cX1_has 6 = .ok (.if_icmp .ne 7, 3) := dk_160 0 7 (dk_at dksX1_has_0 6 rfl rfl)
theorem dX1_has_9 : decode cX1_has 9 = .ok (.iconst 1, 1) := dk_4 (dk_at dksX1_has_0 9 rfl rfl)
theorem dX1_has_10 : decode cX1_has 10 = .ok (.goto 4, 3) := dk_167 0 4 (dk_at dksX1_has_0 10 rfl rfl)
theorem dX1_has_13 : decode cX1_has 13 = .ok (.iconst 0, 1) := dk_3 (dk_at dksX1_has_0 13 rfl rfl)
theorem dX1_has_14 : decode cX1_has 14 = .ok (.ireturn, 1) := dk_172 (dk_at dksX1_has_0 14 rfl rfl)
abbrev cX1_pianoOf : ByteArray := prog_1_method_5_code
def yX1_pianoOf : MethodName := ⟨RX1, "pianoOf", "(I)LTunedHouses$Piano;"⟩
def dkwX1_pianoOf_0 : List UInt8 := [42, 180, 0, 22, 180, 0, 112, 27, 182, 0, 122, 192, 0, 126, 176]
abbrev dktX1_pianoOf_0 : List UInt8 := dkwX1_pianoOf_0 ++ []
theorem dksX1_pianoOf_0 : cX1_pianoOf.data.toList.drop 0 = dktX1_pianoOf_0 := by decide +kernel
theorem dX1_pianoOf_0 : decode cX1_pianoOf 0 = .ok (.aload_n 0, 1) := dk_42 (dk_at dksX1_pianoOf_0 0 rfl rfl)
theorem dX1_pianoOf_1 : decode cX1_pianoOf 1 = .ok (.getfield 22, 3) := dk_180 0 22 (dk_at dksX1_pianoOf_0 1 rfl rfl)
theorem dX1_pianoOf_4 : decode cX1_pianoOf 4 = .ok (.getfield 112, 3) := dk_180 0 112 (dk_at dksX1_pianoOf_0 4 rfl rfl)
theorem dX1_pianoOf_7 : decode cX1_pianoOf 7 = .ok (.iload_n 1, 1) := dk_27 (dk_at dksX1_pianoOf_0 7 rfl rfl)
theorem dX1_pianoOf_8 : decode cX1_pianoOf 8 = .ok (.invokevirtual 122, 3) := dk_182 0 122 (dk_at dksX1_pianoOf_0 8 rfl rfl)
theorem dX1_pianoOf_11 : decode cX1_pianoOf 11 = .ok (.checkcast 126, 3) := dk_192 0 126 (dk_at dksX1_pianoOf_0 11 rfl rfl)
theorem dX1_pianoOf_14 : decode cX1_pianoOf 14 = .ok (.areturn, 1) := dk_176 (dk_at dksX1_pianoOf_0 14 rfl rfl)
abbrev cX1_alone : ByteArray := prog_1_method_55_code
def yX1_alone : MethodName := ⟨RX1, "alone", "()I"⟩
def dkwX1_alone_1 : List UInt8 := [184, 1, 117, 164, 0, 13, 42, 28, 182, 1, 122, 153, 0, 5, 28, 60, 132, 2, 1, 167, 255, 219, 27, 172]
abbrev dktX1_alone_1 : List UInt8 := dkwX1_alone_1 ++ []
def dkwX1_alone_0 : List UInt8 := [3, 60, 4, 61, 28, 4, 42, 180, 0, 22, 180, 0, 149, 120, 162, 0, 30, 28, 184, 1, 117, 27]
abbrev dktX1_alone_0 : List UInt8 := dkwX1_alone_0 ++ dktX1_alone_1
theorem dksX1_alone_0 : cX1_alone.data.toList.drop 0 = dktX1_alone_0 := by decide +kernel
theorem dksX1_alone_1 : cX1_alone.data.toList.drop 22 = dktX1_alone_1 := dk_seg dksX1_alone_0 22 rfl rfl
theorem dX1_alone_0 : decode cX1_alone 0 = .ok (.iconst 0, 1) := dk_3 (dk_at dksX1_alone_0 0 rfl rfl)
theorem dX1_alone_1 : decode cX1_alone 1 = .ok (.istore_n 1, 1) := dk_60 (dk_at dksX1_alone_0 1 rfl rfl)
theorem dX1_alone_2 : decode cX1_alone 2 = .ok (.iconst 1, 1) := dk_4 (dk_at dksX1_alone_0 2 rfl rfl)
theorem dX1_alone_3 : decode cX1_alone 3 = .ok (.istore_n 2, 1) := dk_61 (dk_at dksX1_alone_0 3 rfl rfl)
theorem dX1_alone_4 : decode cX1_alone 4 = .ok (.iload_n 2, 1) := dk_28 (dk_at dksX1_alone_0 4 rfl rfl)
theorem dX1_alone_5 : decode cX1_alone 5 = .ok (.iconst 1, 1) := dk_4 (dk_at dksX1_alone_0 5 rfl rfl)
theorem dX1_alone_6 : decode cX1_alone 6 = .ok (.aload_n 0, 1) := dk_42 (dk_at dksX1_alone_0 6 rfl rfl)
theorem dX1_alone_7 : decode cX1_alone 7 = .ok (.getfield 22, 3) := dk_180 0 22 (dk_at dksX1_alone_0 7 rfl rfl)
theorem dX1_alone_10 : decode cX1_alone 10 = .ok (.getfield 149, 3) := dk_180 0 149 (dk_at dksX1_alone_0 10 rfl rfl)
theorem dX1_alone_13 : decode cX1_alone 13 = .ok (.ishl, 1) := dk_120 (dk_at dksX1_alone_0 13 rfl rfl)
theorem dX1_alone_14 : decode cX1_alone 14 = .ok (.if_icmp .ge 30, 3) := dk_162 0 30 (dk_at dksX1_alone_0 14 rfl rfl)
theorem dX1_alone_17 : decode cX1_alone 17 = .ok (.iload_n 2, 1) := dk_28 (dk_at dksX1_alone_0 17 rfl rfl)
theorem dX1_alone_18 : decode cX1_alone 18 = .ok (.invokestatic 373, 3) := dk_184 1 117 (dk_at dksX1_alone_0 18 rfl rfl)
theorem dX1_alone_21 : decode cX1_alone 21 = .ok (.iload_n 1, 1) := dk_27 (dk_at dksX1_alone_0 21 rfl rfl)
theorem dX1_alone_22 : decode cX1_alone 22 = .ok (.invokestatic 373, 3) := dk_184 1 117 (dk_at dksX1_alone_1 0 rfl rfl)
theorem dX1_alone_25 : decode cX1_alone 25 = .ok (.if_icmp .le 13, 3) := dk_164 0 13 (dk_at dksX1_alone_1 3 rfl rfl)
theorem dX1_alone_28 : decode cX1_alone 28 = .ok (.aload_n 0, 1) := dk_42 (dk_at dksX1_alone_1 6 rfl rfl)
theorem dX1_alone_29 : decode cX1_alone 29 = .ok (.iload_n 2, 1) := dk_28 (dk_at dksX1_alone_1 7 rfl rfl)
theorem dX1_alone_30 : decode cX1_alone 30 = .ok (.invokevirtual 378, 3) := dk_182 1 122 (dk_at dksX1_alone_1 8 rfl rfl)
theorem dX1_alone_33 : decode cX1_alone 33 = .ok (.ifCond .eq 5, 3) := dk_153 0 5 (dk_at dksX1_alone_1 11 rfl rfl)
theorem dX1_alone_36 : decode cX1_alone 36 = .ok (.iload_n 2, 1) := dk_28 (dk_at dksX1_alone_1 14 rfl rfl)
theorem dX1_alone_37 : decode cX1_alone 37 = .ok (.istore_n 1, 1) := dk_60 (dk_at dksX1_alone_1 15 rfl rfl)
theorem dX1_alone_38 : decode cX1_alone 38 = .ok (.iinc 2 1, 3) := dk_132 2 1 (dk_at dksX1_alone_1 16 rfl rfl)
theorem dX1_alone_41 : decode cX1_alone 41 = .ok (.goto (-37), 3) := dk_167 255 219 (dk_at dksX1_alone_1 19 rfl rfl)
theorem dX1_alone_44 : decode cX1_alone 44 = .ok (.iload_n 1, 1) := dk_27 (dk_at dksX1_alone_1 22 rfl rfl)
theorem dX1_alone_45 : decode cX1_alone 45 = .ok (.ireturn, 1) := dk_172 (dk_at dksX1_alone_1 23 rfl rfl)
abbrev cX1_isAlone : ByteArray := prog_1_method_54_code
def yX1_isAlone : MethodName := ⟨RX1, "isAlone", "(I)Z"⟩
def dkwX1_isAlone_1 : List UInt8 := [180, 0, 22, 180, 1, 27, 28, 46, 27, 126, 153, 0, 5, 3, 172, 132, 2, 1, 167, 255, 218, 4, 172]
abbrev dktX1_isAlone_1 : List UInt8 := dkwX1_isAlone_1 ++ []
def dkwX1_isAlone_0 : List UInt8 := [3, 61, 28, 42, 180, 0, 22, 180, 0, 149, 162, 0, 33, 27, 28, 184, 1, 93, 153, 0, 19, 42]
abbrev dktX1_isAlone_0 : List UInt8 := dkwX1_isAlone_0 ++ dktX1_isAlone_1
theorem dksX1_isAlone_0 : cX1_isAlone.data.toList.drop 0 = dktX1_isAlone_0 := by decide +kernel
theorem dksX1_isAlone_1 : cX1_isAlone.data.toList.drop 22 = dktX1_isAlone_1 := dk_seg dksX1_isAlone_0 22 rfl rfl
theorem dX1_isAlone_0 : decode cX1_isAlone 0 = .ok (.iconst 0, 1) := dk_3 (dk_at dksX1_isAlone_0 0 rfl rfl)
theorem dX1_isAlone_1 : decode cX1_isAlone 1 = .ok (.istore_n 2, 1) := dk_61 (dk_at dksX1_isAlone_0 1 rfl rfl)
theorem dX1_isAlone_2 : decode cX1_isAlone 2 = .ok (.iload_n 2, 1) := dk_28 (dk_at dksX1_isAlone_0 2 rfl rfl)
theorem dX1_isAlone_3 : decode cX1_isAlone 3 = .ok (.aload_n 0, 1) := dk_42 (dk_at dksX1_isAlone_0 3 rfl rfl)
theorem dX1_isAlone_4 : decode cX1_isAlone 4 = .ok (.getfield 22, 3) := dk_180 0 22 (dk_at dksX1_isAlone_0 4 rfl rfl)
theorem dX1_isAlone_7 : decode cX1_isAlone 7 = .ok (.getfield 149, 3) := dk_180 0 149 (dk_at dksX1_isAlone_0 7 rfl rfl)
theorem dX1_isAlone_10 : decode cX1_isAlone 10 = .ok (.if_icmp .ge 33, 3) := dk_162 0 33 (dk_at dksX1_isAlone_0 10 rfl rfl)
theorem dX1_isAlone_13 : decode cX1_isAlone 13 = .ok (.iload_n 1, 1) := dk_27 (dk_at dksX1_isAlone_0 13 rfl rfl)
theorem dX1_isAlone_14 : decode cX1_isAlone 14 = .ok (.iload_n 2, 1) := dk_28 (dk_at dksX1_isAlone_0 14 rfl rfl)
theorem dX1_isAlone_15 : decode cX1_isAlone 15 = .ok (.invokestatic 349, 3) := dk_184 1 93 (dk_at dksX1_isAlone_0 15 rfl rfl)
theorem dX1_isAlone_18 : decode cX1_isAlone 18 = .ok (.ifCond .eq 19, 3) := dk_153 0 19 (dk_at dksX1_isAlone_0 18 rfl rfl)
theorem dX1_isAlone_21 : decode cX1_isAlone 21 = .ok (.aload_n 0, 1) := dk_42 (dk_at dksX1_isAlone_0 21 rfl rfl)
theorem dX1_isAlone_22 : decode cX1_isAlone 22 = .ok (.getfield 22, 3) := dk_180 0 22 (dk_at dksX1_isAlone_1 0 rfl rfl)
theorem dX1_isAlone_25 : decode cX1_isAlone 25 = .ok (.getfield 283, 3) := dk_180 1 27 (dk_at dksX1_isAlone_1 3 rfl rfl)
theorem dX1_isAlone_28 : decode cX1_isAlone 28 = .ok (.iload_n 2, 1) := dk_28 (dk_at dksX1_isAlone_1 6 rfl rfl)
theorem dX1_isAlone_29 : decode cX1_isAlone 29 = .ok (.iaload, 1) := dk_46 (dk_at dksX1_isAlone_1 7 rfl rfl)
theorem dX1_isAlone_30 : decode cX1_isAlone 30 = .ok (.iload_n 1, 1) := dk_27 (dk_at dksX1_isAlone_1 8 rfl rfl)
theorem dX1_isAlone_31 : decode cX1_isAlone 31 = .ok (.iand, 1) := dk_126 (dk_at dksX1_isAlone_1 9 rfl rfl)
theorem dX1_isAlone_32 : decode cX1_isAlone 32 = .ok (.ifCond .eq 5, 3) := dk_153 0 5 (dk_at dksX1_isAlone_1 10 rfl rfl)
theorem dX1_isAlone_35 : decode cX1_isAlone 35 = .ok (.iconst 0, 1) := dk_3 (dk_at dksX1_isAlone_1 13 rfl rfl)
theorem dX1_isAlone_36 : decode cX1_isAlone 36 = .ok (.ireturn, 1) := dk_172 (dk_at dksX1_isAlone_1 14 rfl rfl)
theorem dX1_isAlone_37 : decode cX1_isAlone 37 = .ok (.iinc 2 1, 3) := dk_132 2 1 (dk_at dksX1_isAlone_1 15 rfl rfl)
theorem dX1_isAlone_40 : decode cX1_isAlone 40 = .ok (.goto (-38), 3) := dk_167 255 218 (dk_at dksX1_isAlone_1 18 rfl rfl)
theorem dX1_isAlone_43 : decode cX1_isAlone 43 = .ok (.iconst 1, 1) := dk_4 (dk_at dksX1_isAlone_1 21 rfl rfl)
theorem dX1_isAlone_44 : decode cX1_isAlone 44 = .ok (.ireturn, 1) := dk_172 (dk_at dksX1_isAlone_1 22 rfl rfl)
abbrev cX1_image : ByteArray := prog_1_method_69_code
def yX1_image : MethodName := ⟨RX1, "image", "()I"⟩
def dkwX1_image_3 : List UInt8 := [180, 0, 109, 42, 180, 0, 100, 79, 42, 89, 180, 0, 109, 4, 96, 181, 0, 109, 42, 180, 0, 109, 172]
abbrev dktX1_image_3 : List UInt8 := dkwX1_image_3 ++ []
def dkwX1_image_2 : List UInt8 := [104, 27, 96, 42, 180, 0, 56, 27, 50, 182, 0, 202, 132, 1, 1, 167, 255, 222, 42, 180, 0, 66, 42]
abbrev dktX1_image_2 : List UInt8 := dkwX1_image_2 ++ dktX1_image_3
def dkwX1_image_1 : List UInt8 := [182, 0, 202, 3, 60, 27, 42, 180, 0, 100, 162, 0, 32, 42, 42, 180, 0, 63, 16, 16, 42, 180, 0, 109]
abbrev dktX1_image_1 : List UInt8 := dkwX1_image_1 ++ dktX1_image_2
def dkwX1_image_0 : List UInt8 := [42, 180, 0, 109, 6, 160, 0, 5, 2, 172, 42, 42, 180, 0, 60, 42, 180, 0, 109, 42, 180, 0, 49]
abbrev dktX1_image_0 : List UInt8 := dkwX1_image_0 ++ dktX1_image_1
theorem dksX1_image_0 : cX1_image.data.toList.drop 0 = dktX1_image_0 := by decide +kernel
theorem dksX1_image_1 : cX1_image.data.toList.drop 23 = dktX1_image_1 := dk_seg dksX1_image_0 23 rfl rfl
theorem dksX1_image_2 : cX1_image.data.toList.drop 47 = dktX1_image_2 := dk_seg dksX1_image_1 24 rfl rfl
theorem dksX1_image_3 : cX1_image.data.toList.drop 70 = dktX1_image_3 := dk_seg dksX1_image_2 23 rfl rfl
theorem dX1_image_0 : decode cX1_image 0 = .ok (.aload_n 0, 1) := dk_42 (dk_at dksX1_image_0 0 rfl rfl)
theorem dX1_image_1 : decode cX1_image 1 = .ok (.getfield 109, 3) := dk_180 0 109 (dk_at dksX1_image_0 1 rfl rfl)
theorem dX1_image_4 : decode cX1_image 4 = .ok (.iconst 3, 1) := dk_6 (dk_at dksX1_image_0 4 rfl rfl)
theorem dX1_image_5 : decode cX1_image 5 = .ok (.if_icmp .ne 5, 3) := dk_160 0 5 (dk_at dksX1_image_0 5 rfl rfl)
theorem dX1_image_8 : decode cX1_image 8 = .ok (.iconst (-1), 1) := dk_2 (dk_at dksX1_image_0 8 rfl rfl)
theorem dX1_image_9 : decode cX1_image 9 = .ok (.ireturn, 1) := dk_172 (dk_at dksX1_image_0 9 rfl rfl)
theorem dX1_image_10 : decode cX1_image 10 = .ok (.aload_n 0, 1) := dk_42 (dk_at dksX1_image_0 10 rfl rfl)
theorem dX1_image_11 : decode cX1_image 11 = .ok (.aload_n 0, 1) := dk_42 (dk_at dksX1_image_0 11 rfl rfl)
theorem dX1_image_12 : decode cX1_image 12 = .ok (.getfield 60, 3) := dk_180 0 60 (dk_at dksX1_image_0 12 rfl rfl)
theorem dX1_image_15 : decode cX1_image 15 = .ok (.aload_n 0, 1) := dk_42 (dk_at dksX1_image_0 15 rfl rfl)
theorem dX1_image_16 : decode cX1_image 16 = .ok (.getfield 109, 3) := dk_180 0 109 (dk_at dksX1_image_0 16 rfl rfl)
theorem dX1_image_19 : decode cX1_image 19 = .ok (.aload_n 0, 1) := dk_42 (dk_at dksX1_image_0 19 rfl rfl)
theorem dX1_image_20 : decode cX1_image 20 = .ok (.getfield 49, 3) := dk_180 0 49 (dk_at dksX1_image_0 20 rfl rfl)
theorem dX1_image_23 : decode cX1_image 23 = .ok (.invokevirtual 202, 3) := dk_182 0 202 (dk_at dksX1_image_1 0 rfl rfl)
theorem dX1_image_26 : decode cX1_image 26 = .ok (.iconst 0, 1) := dk_3 (dk_at dksX1_image_1 3 rfl rfl)
theorem dX1_image_27 : decode cX1_image 27 = .ok (.istore_n 1, 1) := dk_60 (dk_at dksX1_image_1 4 rfl rfl)
theorem dX1_image_28 : decode cX1_image 28 = .ok (.iload_n 1, 1) := dk_27 (dk_at dksX1_image_1 5 rfl rfl)
theorem dX1_image_29 : decode cX1_image 29 = .ok (.aload_n 0, 1) := dk_42 (dk_at dksX1_image_1 6 rfl rfl)
theorem dX1_image_30 : decode cX1_image 30 = .ok (.getfield 100, 3) := dk_180 0 100 (dk_at dksX1_image_1 7 rfl rfl)
theorem dX1_image_33 : decode cX1_image 33 = .ok (.if_icmp .ge 32, 3) := dk_162 0 32 (dk_at dksX1_image_1 10 rfl rfl)
theorem dX1_image_36 : decode cX1_image 36 = .ok (.aload_n 0, 1) := dk_42 (dk_at dksX1_image_1 13 rfl rfl)
theorem dX1_image_37 : decode cX1_image 37 = .ok (.aload_n 0, 1) := dk_42 (dk_at dksX1_image_1 14 rfl rfl)
theorem dX1_image_38 : decode cX1_image 38 = .ok (.getfield 63, 3) := dk_180 0 63 (dk_at dksX1_image_1 15 rfl rfl)
theorem dX1_image_41 : decode cX1_image 41 = .ok (.bipush 16, 2) := dk_16 16 (dk_at dksX1_image_1 18 rfl rfl)
theorem dX1_image_43 : decode cX1_image 43 = .ok (.aload_n 0, 1) := dk_42 (dk_at dksX1_image_1 20 rfl rfl)
theorem dX1_image_44 : decode cX1_image 44 = .ok (.getfield 109, 3) := dk_180 0 109 (dk_at dksX1_image_1 21 rfl rfl)
theorem dX1_image_47 : decode cX1_image 47 = .ok (.imul, 1) := dk_104 (dk_at dksX1_image_2 0 rfl rfl)
theorem dX1_image_48 : decode cX1_image 48 = .ok (.iload_n 1, 1) := dk_27 (dk_at dksX1_image_2 1 rfl rfl)
theorem dX1_image_49 : decode cX1_image 49 = .ok (.iadd, 1) := dk_96 (dk_at dksX1_image_2 2 rfl rfl)
theorem dX1_image_50 : decode cX1_image 50 = .ok (.aload_n 0, 1) := dk_42 (dk_at dksX1_image_2 3 rfl rfl)
theorem dX1_image_51 : decode cX1_image 51 = .ok (.getfield 56, 3) := dk_180 0 56 (dk_at dksX1_image_2 4 rfl rfl)
theorem dX1_image_54 : decode cX1_image 54 = .ok (.iload_n 1, 1) := dk_27 (dk_at dksX1_image_2 7 rfl rfl)
theorem dX1_image_55 : decode cX1_image 55 = .ok (.aaload, 1) := dk_50 (dk_at dksX1_image_2 8 rfl rfl)
theorem dX1_image_56 : decode cX1_image 56 = .ok (.invokevirtual 202, 3) := dk_182 0 202 (dk_at dksX1_image_2 9 rfl rfl)
theorem dX1_image_59 : decode cX1_image 59 = .ok (.iinc 1 1, 3) := dk_132 1 1 (dk_at dksX1_image_2 12 rfl rfl)
theorem dX1_image_62 : decode cX1_image 62 = .ok (.goto (-34), 3) := dk_167 255 222 (dk_at dksX1_image_2 15 rfl rfl)
theorem dX1_image_65 : decode cX1_image 65 = .ok (.aload_n 0, 1) := dk_42 (dk_at dksX1_image_2 18 rfl rfl)
theorem dX1_image_66 : decode cX1_image 66 = .ok (.getfield 66, 3) := dk_180 0 66 (dk_at dksX1_image_2 19 rfl rfl)
theorem dX1_image_69 : decode cX1_image 69 = .ok (.aload_n 0, 1) := dk_42 (dk_at dksX1_image_2 22 rfl rfl)
theorem dX1_image_70 : decode cX1_image 70 = .ok (.getfield 109, 3) := dk_180 0 109 (dk_at dksX1_image_3 0 rfl rfl)
theorem dX1_image_73 : decode cX1_image 73 = .ok (.aload_n 0, 1) := dk_42 (dk_at dksX1_image_3 3 rfl rfl)
theorem dX1_image_74 : decode cX1_image 74 = .ok (.getfield 100, 3) := dk_180 0 100 (dk_at dksX1_image_3 4 rfl rfl)
theorem dX1_image_77 : decode cX1_image 77 = .ok (.iastore, 1) := dk_79 (dk_at dksX1_image_3 7 rfl rfl)
theorem dX1_image_78 : decode cX1_image 78 = .ok (.aload_n 0, 1) := dk_42 (dk_at dksX1_image_3 8 rfl rfl)
theorem dX1_image_79 : decode cX1_image 79 = .ok (.dup, 1) := dk_89 (dk_at dksX1_image_3 9 rfl rfl)
theorem dX1_image_80 : decode cX1_image 80 = .ok (.getfield 109, 3) := dk_180 0 109 (dk_at dksX1_image_3 10 rfl rfl)
theorem dX1_image_83 : decode cX1_image 83 = .ok (.iconst 1, 1) := dk_4 (dk_at dksX1_image_3 13 rfl rfl)
theorem dX1_image_84 : decode cX1_image 84 = .ok (.iadd, 1) := dk_96 (dk_at dksX1_image_3 14 rfl rfl)
theorem dX1_image_85 : decode cX1_image 85 = .ok (.putfield 109, 3) := dk_181 0 109 (dk_at dksX1_image_3 15 rfl rfl)
theorem dX1_image_88 : decode cX1_image 88 = .ok (.aload_n 0, 1) := dk_42 (dk_at dksX1_image_3 18 rfl rfl)
theorem dX1_image_89 : decode cX1_image 89 = .ok (.getfield 109, 3) := dk_180 0 109 (dk_at dksX1_image_3 19 rfl rfl)
theorem dX1_image_92 : decode cX1_image 92 = .ok (.ireturn, 1) := dk_172 (dk_at dksX1_image_3 22 rfl rfl)
abbrev cX1_kept : ByteArray := prog_1_method_68_code
def yX1_kept : MethodName := ⟨RX1, "kept", "([LTunedHouses$Terrace;ILTunedHouses$Terrace;)V"⟩
def dkwX1_kept_1 : List UInt8 := [87, 177]
abbrev dktX1_kept_1 : List UInt8 := dkwX1_kept_1 ++ []
def dkwX1_kept_0 : List UInt8 := [43, 28, 50, 199, 0, 14, 43, 28, 187, 0, 44, 89, 42, 183, 0, 46, 83, 43, 28, 50, 45, 182, 0, 235]
abbrev dktX1_kept_0 : List UInt8 := dkwX1_kept_0 ++ dktX1_kept_1
theorem dksX1_kept_0 : cX1_kept.data.toList.drop 0 = dktX1_kept_0 := by decide +kernel
theorem dksX1_kept_1 : cX1_kept.data.toList.drop 24 = dktX1_kept_1 := dk_seg dksX1_kept_0 24 rfl rfl
theorem dX1_kept_0 : decode cX1_kept 0 = .ok (.aload_n 1, 1) := dk_43 (dk_at dksX1_kept_0 0 rfl rfl)
theorem dX1_kept_1 : decode cX1_kept 1 = .ok (.iload_n 2, 1) := dk_28 (dk_at dksX1_kept_0 1 rfl rfl)
theorem dX1_kept_2 : decode cX1_kept 2 = .ok (.aaload, 1) := dk_50 (dk_at dksX1_kept_0 2 rfl rfl)
theorem dX1_kept_3 : decode cX1_kept 3 = .ok (.ifnonnull 14, 3) := dk_199 0 14 (dk_at dksX1_kept_0 3 rfl rfl)
theorem dX1_kept_6 : decode cX1_kept 6 = .ok (.aload_n 1, 1) := dk_43 (dk_at dksX1_kept_0 6 rfl rfl)
theorem dX1_kept_7 : decode cX1_kept 7 = .ok (.iload_n 2, 1) := dk_28 (dk_at dksX1_kept_0 7 rfl rfl)
theorem dX1_kept_8 : decode cX1_kept 8 = .ok (.new 44, 3) := dk_187 0 44 (dk_at dksX1_kept_0 8 rfl rfl)
theorem dX1_kept_11 : decode cX1_kept 11 = .ok (.dup, 1) := dk_89 (dk_at dksX1_kept_0 11 rfl rfl)
theorem dX1_kept_12 : decode cX1_kept 12 = .ok (.aload_n 0, 1) := dk_42 (dk_at dksX1_kept_0 12 rfl rfl)
theorem dX1_kept_13 : decode cX1_kept 13 = .ok (.invokespecial 46, 3) := dk_183 0 46 (dk_at dksX1_kept_0 13 rfl rfl)
theorem dX1_kept_16 : decode cX1_kept 16 = .ok (.aastore, 1) := dk_83 (dk_at dksX1_kept_0 16 rfl rfl)
theorem dX1_kept_17 : decode cX1_kept 17 = .ok (.aload_n 1, 1) := dk_43 (dk_at dksX1_kept_0 17 rfl rfl)
theorem dX1_kept_18 : decode cX1_kept 18 = .ok (.iload_n 2, 1) := dk_28 (dk_at dksX1_kept_0 18 rfl rfl)
theorem dX1_kept_19 : decode cX1_kept 19 = .ok (.aaload, 1) := dk_50 (dk_at dksX1_kept_0 19 rfl rfl)
theorem dX1_kept_20 : decode cX1_kept 20 = .ok (.aload_n 3, 1) := dk_45 (dk_at dksX1_kept_0 20 rfl rfl)
theorem dX1_kept_21 : decode cX1_kept 21 = .ok (.invokevirtual 235, 3) := dk_182 0 235 (dk_at dksX1_kept_0 21 rfl rfl)
theorem dX1_kept_24 : decode cX1_kept 24 = .ok (.pop, 1) := dk_87 (dk_at dksX1_kept_1 0 rfl rfl)
theorem dX1_kept_25 : decode cX1_kept 25 = .ok (.return_, 1) := dk_177 (dk_at dksX1_kept_1 1 rfl rfl)
abbrev cX1_restore : ByteArray := prog_1_method_70_code
def yX1_restore : MethodName := ⟨RX1, "restore", "()I"⟩
def dkwX1_restore_4 : List UInt8 := [42, 180, 0, 109, 172]
abbrev dktX1_restore_4 : List UInt8 := dkwX1_restore_4 ++ []
def dkwX1_restore_3 : List UInt8 := [16, 16, 42, 180, 0, 109, 104, 27, 96, 50, 182, 0, 202, 132, 1, 1, 167, 255, 222, 42, 3, 181, 0, 103]
abbrev dktX1_restore_3 : List UInt8 := dkwX1_restore_3 ++ dktX1_restore_4
def dkwX1_restore_2 : List UInt8 := [181, 0, 100, 3, 60, 27, 42, 180, 0, 100, 162, 0, 32, 42, 42, 180, 0, 56, 27, 42, 180, 0, 63]
abbrev dktX1_restore_2 : List UInt8 := dkwX1_restore_2 ++ dktX1_restore_3
def dkwX1_restore_1 : List UInt8 := [180, 0, 60, 42, 180, 0, 109, 50, 182, 0, 235, 87, 42, 42, 180, 0, 66, 42, 180, 0, 109, 46]
abbrev dktX1_restore_1 : List UInt8 := dkwX1_restore_1 ++ dktX1_restore_2
def dkwX1_restore_0 : List UInt8 := [42, 180, 0, 109, 154, 0, 5, 2, 172, 42, 89, 180, 0, 109, 4, 100, 181, 0, 109, 42, 180, 0, 49, 42]
abbrev dktX1_restore_0 : List UInt8 := dkwX1_restore_0 ++ dktX1_restore_1
theorem dksX1_restore_0 : cX1_restore.data.toList.drop 0 = dktX1_restore_0 := by decide +kernel
theorem dksX1_restore_1 : cX1_restore.data.toList.drop 24 = dktX1_restore_1 := dk_seg dksX1_restore_0 24 rfl rfl
theorem dksX1_restore_2 : cX1_restore.data.toList.drop 46 = dktX1_restore_2 := dk_seg dksX1_restore_1 22 rfl rfl
theorem dksX1_restore_3 : cX1_restore.data.toList.drop 69 = dktX1_restore_3 := dk_seg dksX1_restore_2 23 rfl rfl
theorem dksX1_restore_4 : cX1_restore.data.toList.drop 93 = dktX1_restore_4 := dk_seg dksX1_restore_3 24 rfl rfl
theorem dX1_restore_0 : decode cX1_restore 0 = .ok (.aload_n 0, 1) := dk_42 (dk_at dksX1_restore_0 0 rfl rfl)
theorem dX1_restore_1 : decode cX1_restore 1 = .ok (.getfield 109, 3) := dk_180 0 109 (dk_at dksX1_restore_0 1 rfl rfl)
theorem dX1_restore_4 : decode cX1_restore 4 = .ok (.ifCond .ne 5, 3) := dk_154 0 5 (dk_at dksX1_restore_0 4 rfl rfl)
theorem dX1_restore_7 : decode cX1_restore 7 = .ok (.iconst (-1), 1) := dk_2 (dk_at dksX1_restore_0 7 rfl rfl)
theorem dX1_restore_8 : decode cX1_restore 8 = .ok (.ireturn, 1) := dk_172 (dk_at dksX1_restore_0 8 rfl rfl)
theorem dX1_restore_9 : decode cX1_restore 9 = .ok (.aload_n 0, 1) := dk_42 (dk_at dksX1_restore_0 9 rfl rfl)
theorem dX1_restore_10 : decode cX1_restore 10 = .ok (.dup, 1) := dk_89 (dk_at dksX1_restore_0 10 rfl rfl)
theorem dX1_restore_11 : decode cX1_restore 11 = .ok (.getfield 109, 3) := dk_180 0 109 (dk_at dksX1_restore_0 11 rfl rfl)
theorem dX1_restore_14 : decode cX1_restore 14 = .ok (.iconst 1, 1) := dk_4 (dk_at dksX1_restore_0 14 rfl rfl)
theorem dX1_restore_15 : decode cX1_restore 15 = .ok (.isub, 1) := dk_100 (dk_at dksX1_restore_0 15 rfl rfl)
theorem dX1_restore_16 : decode cX1_restore 16 = .ok (.putfield 109, 3) := dk_181 0 109 (dk_at dksX1_restore_0 16 rfl rfl)
theorem dX1_restore_19 : decode cX1_restore 19 = .ok (.aload_n 0, 1) := dk_42 (dk_at dksX1_restore_0 19 rfl rfl)
theorem dX1_restore_20 : decode cX1_restore 20 = .ok (.getfield 49, 3) := dk_180 0 49 (dk_at dksX1_restore_0 20 rfl rfl)
theorem dX1_restore_23 : decode cX1_restore 23 = .ok (.aload_n 0, 1) := dk_42 (dk_at dksX1_restore_0 23 rfl rfl)
theorem dX1_restore_24 : decode cX1_restore 24 = .ok (.getfield 60, 3) := dk_180 0 60 (dk_at dksX1_restore_1 0 rfl rfl)
theorem dX1_restore_27 : decode cX1_restore 27 = .ok (.aload_n 0, 1) := dk_42 (dk_at dksX1_restore_1 3 rfl rfl)
theorem dX1_restore_28 : decode cX1_restore 28 = .ok (.getfield 109, 3) := dk_180 0 109 (dk_at dksX1_restore_1 4 rfl rfl)
theorem dX1_restore_31 : decode cX1_restore 31 = .ok (.aaload, 1) := dk_50 (dk_at dksX1_restore_1 7 rfl rfl)
theorem dX1_restore_32 : decode cX1_restore 32 = .ok (.invokevirtual 235, 3) := dk_182 0 235 (dk_at dksX1_restore_1 8 rfl rfl)
theorem dX1_restore_35 : decode cX1_restore 35 = .ok (.pop, 1) := dk_87 (dk_at dksX1_restore_1 11 rfl rfl)
theorem dX1_restore_36 : decode cX1_restore 36 = .ok (.aload_n 0, 1) := dk_42 (dk_at dksX1_restore_1 12 rfl rfl)
theorem dX1_restore_37 : decode cX1_restore 37 = .ok (.aload_n 0, 1) := dk_42 (dk_at dksX1_restore_1 13 rfl rfl)
theorem dX1_restore_38 : decode cX1_restore 38 = .ok (.getfield 66, 3) := dk_180 0 66 (dk_at dksX1_restore_1 14 rfl rfl)
theorem dX1_restore_41 : decode cX1_restore 41 = .ok (.aload_n 0, 1) := dk_42 (dk_at dksX1_restore_1 17 rfl rfl)
theorem dX1_restore_42 : decode cX1_restore 42 = .ok (.getfield 109, 3) := dk_180 0 109 (dk_at dksX1_restore_1 18 rfl rfl)
theorem dX1_restore_45 : decode cX1_restore 45 = .ok (.iaload, 1) := dk_46 (dk_at dksX1_restore_1 21 rfl rfl)
theorem dX1_restore_46 : decode cX1_restore 46 = .ok (.putfield 100, 3) := dk_181 0 100 (dk_at dksX1_restore_2 0 rfl rfl)
theorem dX1_restore_49 : decode cX1_restore 49 = .ok (.iconst 0, 1) := dk_3 (dk_at dksX1_restore_2 3 rfl rfl)
theorem dX1_restore_50 : decode cX1_restore 50 = .ok (.istore_n 1, 1) := dk_60 (dk_at dksX1_restore_2 4 rfl rfl)
theorem dX1_restore_51 : decode cX1_restore 51 = .ok (.iload_n 1, 1) := dk_27 (dk_at dksX1_restore_2 5 rfl rfl)
theorem dX1_restore_52 : decode cX1_restore 52 = .ok (.aload_n 0, 1) := dk_42 (dk_at dksX1_restore_2 6 rfl rfl)
theorem dX1_restore_53 : decode cX1_restore 53 = .ok (.getfield 100, 3) := dk_180 0 100 (dk_at dksX1_restore_2 7 rfl rfl)
theorem dX1_restore_56 : decode cX1_restore 56 = .ok (.if_icmp .ge 32, 3) := dk_162 0 32 (dk_at dksX1_restore_2 10 rfl rfl)
theorem dX1_restore_59 : decode cX1_restore 59 = .ok (.aload_n 0, 1) := dk_42 (dk_at dksX1_restore_2 13 rfl rfl)
theorem dX1_restore_60 : decode cX1_restore 60 = .ok (.aload_n 0, 1) := dk_42 (dk_at dksX1_restore_2 14 rfl rfl)
theorem dX1_restore_61 : decode cX1_restore 61 = .ok (.getfield 56, 3) := dk_180 0 56 (dk_at dksX1_restore_2 15 rfl rfl)
theorem dX1_restore_64 : decode cX1_restore 64 = .ok (.iload_n 1, 1) := dk_27 (dk_at dksX1_restore_2 18 rfl rfl)
theorem dX1_restore_65 : decode cX1_restore 65 = .ok (.aload_n 0, 1) := dk_42 (dk_at dksX1_restore_2 19 rfl rfl)
theorem dX1_restore_66 : decode cX1_restore 66 = .ok (.getfield 63, 3) := dk_180 0 63 (dk_at dksX1_restore_2 20 rfl rfl)
theorem dX1_restore_69 : decode cX1_restore 69 = .ok (.bipush 16, 2) := dk_16 16 (dk_at dksX1_restore_3 0 rfl rfl)
theorem dX1_restore_71 : decode cX1_restore 71 = .ok (.aload_n 0, 1) := dk_42 (dk_at dksX1_restore_3 2 rfl rfl)
theorem dX1_restore_72 : decode cX1_restore 72 = .ok (.getfield 109, 3) := dk_180 0 109 (dk_at dksX1_restore_3 3 rfl rfl)
theorem dX1_restore_75 : decode cX1_restore 75 = .ok (.imul, 1) := dk_104 (dk_at dksX1_restore_3 6 rfl rfl)
theorem dX1_restore_76 : decode cX1_restore 76 = .ok (.iload_n 1, 1) := dk_27 (dk_at dksX1_restore_3 7 rfl rfl)
theorem dX1_restore_77 : decode cX1_restore 77 = .ok (.iadd, 1) := dk_96 (dk_at dksX1_restore_3 8 rfl rfl)
theorem dX1_restore_78 : decode cX1_restore 78 = .ok (.aaload, 1) := dk_50 (dk_at dksX1_restore_3 9 rfl rfl)
theorem dX1_restore_79 : decode cX1_restore 79 = .ok (.invokevirtual 202, 3) := dk_182 0 202 (dk_at dksX1_restore_3 10 rfl rfl)
theorem dX1_restore_82 : decode cX1_restore 82 = .ok (.iinc 1 1, 3) := dk_132 1 1 (dk_at dksX1_restore_3 13 rfl rfl)
theorem dX1_restore_85 : decode cX1_restore 85 = .ok (.goto (-34), 3) := dk_167 255 222 (dk_at dksX1_restore_3 16 rfl rfl)
theorem dX1_restore_88 : decode cX1_restore 88 = .ok (.aload_n 0, 1) := dk_42 (dk_at dksX1_restore_3 19 rfl rfl)
theorem dX1_restore_89 : decode cX1_restore 89 = .ok (.iconst 0, 1) := dk_3 (dk_at dksX1_restore_3 20 rfl rfl)
theorem dX1_restore_90 : decode cX1_restore 90 = .ok (.putfield 103, 3) := dk_181 0 103 (dk_at dksX1_restore_3 21 rfl rfl)
theorem dX1_restore_93 : decode cX1_restore 93 = .ok (.aload_n 0, 1) := dk_42 (dk_at dksX1_restore_4 0 rfl rfl)
theorem dX1_restore_94 : decode cX1_restore 94 = .ok (.getfield 109, 3) := dk_180 0 109 (dk_at dksX1_restore_4 1 rfl rfl)
theorem dX1_restore_97 : decode cX1_restore 97 = .ok (.ireturn, 1) := dk_172 (dk_at dksX1_restore_4 4 rfl rfl)
abbrev cX1_status : ByteArray := prog_1_method_71_code
def yX1_status : MethodName := ⟨RX1, "status", "(I)I"⟩
def dkwX1_status_0 : List UInt8 := [27, 184, 1, 40, 153, 0, 12, 42, 180, 0, 41, 27, 46, 167, 0, 4, 2, 172]
abbrev dktX1_status_0 : List UInt8 := dkwX1_status_0 ++ []
theorem dksX1_status_0 : cX1_status.data.toList.drop 0 = dktX1_status_0 := by decide +kernel
theorem dX1_status_0 : decode cX1_status 0 = .ok (.iload_n 1, 1) := dk_27 (dk_at dksX1_status_0 0 rfl rfl)
theorem dX1_status_1 : decode cX1_status 1 = .ok (.invokestatic 296, 3) := dk_184 1 40 (dk_at dksX1_status_0 1 rfl rfl)
theorem dX1_status_4 : decode cX1_status 4 = .ok (.ifCond .eq 12, 3) := dk_153 0 12 (dk_at dksX1_status_0 4 rfl rfl)
theorem dX1_status_7 : decode cX1_status 7 = .ok (.aload_n 0, 1) := dk_42 (dk_at dksX1_status_0 7 rfl rfl)
theorem dX1_status_8 : decode cX1_status 8 = .ok (.getfield 41, 3) := dk_180 0 41 (dk_at dksX1_status_0 8 rfl rfl)
theorem dX1_status_11 : decode cX1_status 11 = .ok (.iload_n 1, 1) := dk_27 (dk_at dksX1_status_0 11 rfl rfl)
theorem dX1_status_12 : decode cX1_status 12 = .ok (.iaload, 1) := dk_46 (dk_at dksX1_status_0 12 rfl rfl)
theorem dX1_status_13 : decode cX1_status 13 = .ok (.goto 4, 3) := dk_167 0 4 (dk_at dksX1_status_0 13 rfl rfl)
theorem dX1_status_16 : decode cX1_status 16 = .ok (.iconst (-1), 1) := dk_2 (dk_at dksX1_status_0 16 rfl rfl)
theorem dX1_status_17 : decode cX1_status 17 = .ok (.ireturn, 1) := dk_172 (dk_at dksX1_status_0 17 rfl rfl)
abbrev cX1_isPart : ByteArray := prog_1_method_11_code
def yX1_isPart : MethodName := ⟨RX1, "isPart", "(I)Z"⟩
def dkwX1_isPart_0 : List UInt8 := [26, 153, 0, 8, 26, 4, 160, 0, 7, 4, 167, 0, 4, 3, 172]
abbrev dktX1_isPart_0 : List UInt8 := dkwX1_isPart_0 ++ []
theorem dksX1_isPart_0 : cX1_isPart.data.toList.drop 0 = dktX1_isPart_0 := by decide +kernel
theorem dX1_isPart_0 : decode cX1_isPart 0 = .ok (.iload_n 0, 1) := dk_26 (dk_at dksX1_isPart_0 0 rfl rfl)
theorem dX1_isPart_1 : decode cX1_isPart 1 = .ok (.ifCond .eq 8, 3) := dk_153 0 8 (dk_at dksX1_isPart_0 1 rfl rfl)
theorem dX1_isPart_4 : decode cX1_isPart 4 = .ok (.iload_n 0, 1) := dk_26 (dk_at dksX1_isPart_0 4 rfl rfl)
theorem dX1_isPart_5 : decode cX1_isPart 5 = .ok (.iconst 1, 1) := dk_4 (dk_at dksX1_isPart_0 5 rfl rfl)
theorem dX1_isPart_6 : decode cX1_isPart 6 = .ok (.if_icmp .ne 7, 3) := dk_160 0 7 (dk_at dksX1_isPart_0 6 rfl rfl)
theorem dX1_isPart_9 : decode cX1_isPart 9 = .ok (.iconst 1, 1) := dk_4 (dk_at dksX1_isPart_0 9 rfl rfl)
theorem dX1_isPart_10 : decode cX1_isPart 10 = .ok (.goto 4, 3) := dk_167 0 4 (dk_at dksX1_isPart_0 10 rfl rfl)
theorem dX1_isPart_13 : decode cX1_isPart 13 = .ok (.iconst 0, 1) := dk_3 (dk_at dksX1_isPart_0 13 rfl rfl)
theorem dX1_isPart_14 : decode cX1_isPart 14 = .ok (.ireturn, 1) := dk_172 (dk_at dksX1_isPart_0 14 rfl rfl)
abbrev cX1_count : ByteArray := prog_1_method_72_code
def yX1_count : MethodName := ⟨RX1, "count", "(I)I"⟩
def dkwX1_count_1 : List UInt8 := [5, 160, 0, 10, 42, 180, 0, 100, 167, 0, 4, 2, 172]
abbrev dktX1_count_1 : List UInt8 := dkwX1_count_1 ++ []
def dkwX1_count_0 : List UInt8 := [27, 154, 0, 10, 42, 180, 0, 109, 167, 0, 28, 27, 4, 160, 0, 10, 42, 180, 0, 158, 167, 0, 16, 27]
abbrev dktX1_count_0 : List UInt8 := dkwX1_count_0 ++ dktX1_count_1
theorem dksX1_count_0 : cX1_count.data.toList.drop 0 = dktX1_count_0 := by decide +kernel
theorem dksX1_count_1 : cX1_count.data.toList.drop 24 = dktX1_count_1 := dk_seg dksX1_count_0 24 rfl rfl
theorem dX1_count_0 : decode cX1_count 0 = .ok (.iload_n 1, 1) := dk_27 (dk_at dksX1_count_0 0 rfl rfl)
theorem dX1_count_1 : decode cX1_count 1 = .ok (.ifCond .ne 10, 3) := dk_154 0 10 (dk_at dksX1_count_0 1 rfl rfl)
theorem dX1_count_4 : decode cX1_count 4 = .ok (.aload_n 0, 1) := dk_42 (dk_at dksX1_count_0 4 rfl rfl)
theorem dX1_count_5 : decode cX1_count 5 = .ok (.getfield 109, 3) := dk_180 0 109 (dk_at dksX1_count_0 5 rfl rfl)
theorem dX1_count_8 : decode cX1_count 8 = .ok (.goto 28, 3) := dk_167 0 28 (dk_at dksX1_count_0 8 rfl rfl)
theorem dX1_count_11 : decode cX1_count 11 = .ok (.iload_n 1, 1) := dk_27 (dk_at dksX1_count_0 11 rfl rfl)
theorem dX1_count_12 : decode cX1_count 12 = .ok (.iconst 1, 1) := dk_4 (dk_at dksX1_count_0 12 rfl rfl)
theorem dX1_count_13 : decode cX1_count 13 = .ok (.if_icmp .ne 10, 3) := dk_160 0 10 (dk_at dksX1_count_0 13 rfl rfl)
theorem dX1_count_16 : decode cX1_count 16 = .ok (.aload_n 0, 1) := dk_42 (dk_at dksX1_count_0 16 rfl rfl)
theorem dX1_count_17 : decode cX1_count 17 = .ok (.getfield 158, 3) := dk_180 0 158 (dk_at dksX1_count_0 17 rfl rfl)
theorem dX1_count_20 : decode cX1_count 20 = .ok (.goto 16, 3) := dk_167 0 16 (dk_at dksX1_count_0 20 rfl rfl)
theorem dX1_count_23 : decode cX1_count 23 = .ok (.iload_n 1, 1) := dk_27 (dk_at dksX1_count_0 23 rfl rfl)
theorem dX1_count_24 : decode cX1_count 24 = .ok (.iconst 2, 1) := dk_5 (dk_at dksX1_count_1 0 rfl rfl)
theorem dX1_count_25 : decode cX1_count 25 = .ok (.if_icmp .ne 10, 3) := dk_160 0 10 (dk_at dksX1_count_1 1 rfl rfl)
theorem dX1_count_28 : decode cX1_count 28 = .ok (.aload_n 0, 1) := dk_42 (dk_at dksX1_count_1 4 rfl rfl)
theorem dX1_count_29 : decode cX1_count 29 = .ok (.getfield 100, 3) := dk_180 0 100 (dk_at dksX1_count_1 5 rfl rfl)
theorem dX1_count_32 : decode cX1_count 32 = .ok (.goto 4, 3) := dk_167 0 4 (dk_at dksX1_count_1 8 rfl rfl)
theorem dX1_count_35 : decode cX1_count 35 = .ok (.iconst (-1), 1) := dk_2 (dk_at dksX1_count_1 11 rfl rfl)
theorem dX1_count_36 : decode cX1_count 36 = .ok (.ireturn, 1) := dk_172 (dk_at dksX1_count_1 12 rfl rfl)
abbrev cX1_terrace : ByteArray := prog_1_method_18_code
def yX1_terrace : MethodName := ⟨RX1, "terrace", "(I)I"⟩
def dkwX1_terrace_3 : List UInt8 := [181, 0, 158, 29, 172, 58, 4, 42, 3, 181, 0, 158, 25, 4, 191]
abbrev dktX1_terrace_3 : List UInt8 := dkwX1_terrace_3 ++ []
def dkwX1_terrace_2 : List UInt8 := [182, 0, 94, 42, 182, 0, 156, 61, 42, 3, 181, 0, 158, 28, 172, 77, 42, 44, 182, 0, 185, 62, 42, 3]
abbrev dktX1_terrace_2 : List UInt8 := dkwX1_terrace_2 ++ dktX1_terrace_3
def dkwX1_terrace_1 : List UInt8 := [181, 0, 69, 42, 187, 0, 176, 89, 42, 180, 0, 73, 27, 183, 0, 178, 182, 0, 181, 181, 0, 22, 42]
abbrev dktX1_terrace_1 : List UInt8 := dkwX1_terrace_1 ++ dktX1_terrace_2
def dkwX1_terrace_0 : List UInt8 := [42, 27, 155, 0, 15, 27, 42, 180, 0, 158, 163, 0, 7, 4, 167, 0, 4, 3, 182, 0, 172, 42, 2]
abbrev dktX1_terrace_0 : List UInt8 := dkwX1_terrace_0 ++ dktX1_terrace_1
theorem dksX1_terrace_0 : cX1_terrace.data.toList.drop 0 = dktX1_terrace_0 := by decide +kernel
theorem dksX1_terrace_1 : cX1_terrace.data.toList.drop 23 = dktX1_terrace_1 := dk_seg dksX1_terrace_0 23 rfl rfl
theorem dksX1_terrace_2 : cX1_terrace.data.toList.drop 46 = dktX1_terrace_2 := dk_seg dksX1_terrace_1 23 rfl rfl
theorem dksX1_terrace_3 : cX1_terrace.data.toList.drop 70 = dktX1_terrace_3 := dk_seg dksX1_terrace_2 24 rfl rfl
theorem dX1_terrace_0 : decode cX1_terrace 0 = .ok (.aload_n 0, 1) := dk_42 (dk_at dksX1_terrace_0 0 rfl rfl)
theorem dX1_terrace_1 : decode cX1_terrace 1 = .ok (.iload_n 1, 1) := dk_27 (dk_at dksX1_terrace_0 1 rfl rfl)
theorem dX1_terrace_2 : decode cX1_terrace 2 = .ok (.ifCond .lt 15, 3) := dk_155 0 15 (dk_at dksX1_terrace_0 2 rfl rfl)
theorem dX1_terrace_5 : decode cX1_terrace 5 = .ok (.iload_n 1, 1) := dk_27 (dk_at dksX1_terrace_0 5 rfl rfl)
theorem dX1_terrace_6 : decode cX1_terrace 6 = .ok (.aload_n 0, 1) := dk_42 (dk_at dksX1_terrace_0 6 rfl rfl)
theorem dX1_terrace_7 : decode cX1_terrace 7 = .ok (.getfield 158, 3) := dk_180 0 158 (dk_at dksX1_terrace_0 7 rfl rfl)
theorem dX1_terrace_10 : decode cX1_terrace 10 = .ok (.if_icmp .gt 7, 3) := dk_163 0 7 (dk_at dksX1_terrace_0 10 rfl rfl)
theorem dX1_terrace_13 : decode cX1_terrace 13 = .ok (.iconst 1, 1) := dk_4 (dk_at dksX1_terrace_0 13 rfl rfl)
theorem dX1_terrace_14 : decode cX1_terrace 14 = .ok (.goto 4, 3) := dk_167 0 4 (dk_at dksX1_terrace_0 14 rfl rfl)
theorem dX1_terrace_17 : decode cX1_terrace 17 = .ok (.iconst 0, 1) := dk_3 (dk_at dksX1_terrace_0 17 rfl rfl)
theorem dX1_terrace_18 : decode cX1_terrace 18 = .ok (.invokevirtual 172, 3) := dk_182 0 172 (dk_at dksX1_terrace_0 18 rfl rfl)
theorem dX1_terrace_21 : decode cX1_terrace 21 = .ok (.aload_n 0, 1) := dk_42 (dk_at dksX1_terrace_0 21 rfl rfl)
theorem dX1_terrace_22 : decode cX1_terrace 22 = .ok (.iconst (-1), 1) := dk_2 (dk_at dksX1_terrace_0 22 rfl rfl)
theorem dX1_terrace_23 : decode cX1_terrace 23 = .ok (.putfield 69, 3) := dk_181 0 69 (dk_at dksX1_terrace_1 0 rfl rfl)
theorem dX1_terrace_26 : decode cX1_terrace 26 = .ok (.aload_n 0, 1) := dk_42 (dk_at dksX1_terrace_1 3 rfl rfl)
theorem dX1_terrace_27 : decode cX1_terrace 27 = .ok (.new 176, 3) := dk_187 0 176 (dk_at dksX1_terrace_1 4 rfl rfl)
theorem dX1_terrace_30 : decode cX1_terrace 30 = .ok (.dup, 1) := dk_89 (dk_at dksX1_terrace_1 7 rfl rfl)
theorem dX1_terrace_31 : decode cX1_terrace 31 = .ok (.aload_n 0, 1) := dk_42 (dk_at dksX1_terrace_1 8 rfl rfl)
theorem dX1_terrace_32 : decode cX1_terrace 32 = .ok (.getfield 73, 3) := dk_180 0 73 (dk_at dksX1_terrace_1 9 rfl rfl)
theorem dX1_terrace_35 : decode cX1_terrace 35 = .ok (.iload_n 1, 1) := dk_27 (dk_at dksX1_terrace_1 12 rfl rfl)
theorem dX1_terrace_36 : decode cX1_terrace 36 = .ok (.invokespecial 178, 3) := dk_183 0 178 (dk_at dksX1_terrace_1 13 rfl rfl)
theorem dX1_terrace_39 : decode cX1_terrace 39 = .ok (.invokevirtual 181, 3) := dk_182 0 181 (dk_at dksX1_terrace_1 16 rfl rfl)
theorem dX1_terrace_42 : decode cX1_terrace 42 = .ok (.putfield 22, 3) := dk_181 0 22 (dk_at dksX1_terrace_1 19 rfl rfl)
theorem dX1_terrace_45 : decode cX1_terrace 45 = .ok (.aload_n 0, 1) := dk_42 (dk_at dksX1_terrace_1 22 rfl rfl)
theorem dX1_terrace_46 : decode cX1_terrace 46 = .ok (.invokevirtual 94, 3) := dk_182 0 94 (dk_at dksX1_terrace_2 0 rfl rfl)
theorem dX1_terrace_49 : decode cX1_terrace 49 = .ok (.aload_n 0, 1) := dk_42 (dk_at dksX1_terrace_2 3 rfl rfl)
theorem dX1_terrace_50 : decode cX1_terrace 50 = .ok (.invokevirtual 156, 3) := dk_182 0 156 (dk_at dksX1_terrace_2 4 rfl rfl)
theorem dX1_terrace_53 : decode cX1_terrace 53 = .ok (.istore_n 2, 1) := dk_61 (dk_at dksX1_terrace_2 7 rfl rfl)
theorem dX1_terrace_54 : decode cX1_terrace 54 = .ok (.aload_n 0, 1) := dk_42 (dk_at dksX1_terrace_2 8 rfl rfl)
theorem dX1_terrace_55 : decode cX1_terrace 55 = .ok (.iconst 0, 1) := dk_3 (dk_at dksX1_terrace_2 9 rfl rfl)
theorem dX1_terrace_56 : decode cX1_terrace 56 = .ok (.putfield 158, 3) := dk_181 0 158 (dk_at dksX1_terrace_2 10 rfl rfl)
theorem dX1_terrace_59 : decode cX1_terrace 59 = .ok (.iload_n 2, 1) := dk_28 (dk_at dksX1_terrace_2 13 rfl rfl)
theorem dX1_terrace_60 : decode cX1_terrace 60 = .ok (.ireturn, 1) := dk_172 (dk_at dksX1_terrace_2 14 rfl rfl)
theorem dX1_terrace_61 : decode cX1_terrace 61 = .ok (.astore_n 2, 1) := dk_77 (dk_at dksX1_terrace_2 15 rfl rfl)
theorem dX1_terrace_62 : decode cX1_terrace 62 = .ok (.aload_n 0, 1) := dk_42 (dk_at dksX1_terrace_2 16 rfl rfl)
theorem dX1_terrace_63 : decode cX1_terrace 63 = .ok (.aload_n 2, 1) := dk_44 (dk_at dksX1_terrace_2 17 rfl rfl)
theorem dX1_terrace_64 : decode cX1_terrace 64 = .ok (.invokevirtual 185, 3) := dk_182 0 185 (dk_at dksX1_terrace_2 18 rfl rfl)
theorem dX1_terrace_67 : decode cX1_terrace 67 = .ok (.istore_n 3, 1) := dk_62 (dk_at dksX1_terrace_2 21 rfl rfl)
theorem dX1_terrace_68 : decode cX1_terrace 68 = .ok (.aload_n 0, 1) := dk_42 (dk_at dksX1_terrace_2 22 rfl rfl)
theorem dX1_terrace_69 : decode cX1_terrace 69 = .ok (.iconst 0, 1) := dk_3 (dk_at dksX1_terrace_2 23 rfl rfl)
theorem dX1_terrace_70 : decode cX1_terrace 70 = .ok (.putfield 158, 3) := dk_181 0 158 (dk_at dksX1_terrace_3 0 rfl rfl)
theorem dX1_terrace_73 : decode cX1_terrace 73 = .ok (.iload_n 3, 1) := dk_29 (dk_at dksX1_terrace_3 3 rfl rfl)
theorem dX1_terrace_74 : decode cX1_terrace 74 = .ok (.ireturn, 1) := dk_172 (dk_at dksX1_terrace_3 4 rfl rfl)
theorem dX1_terrace_75 : decode cX1_terrace 75 = .ok (.astore 4, 2) := dk_58 4 (dk_at dksX1_terrace_3 5 rfl rfl)
theorem dX1_terrace_77 : decode cX1_terrace 77 = .ok (.aload_n 0, 1) := dk_42 (dk_at dksX1_terrace_3 7 rfl rfl)
theorem dX1_terrace_78 : decode cX1_terrace 78 = .ok (.iconst 0, 1) := dk_3 (dk_at dksX1_terrace_3 8 rfl rfl)
theorem dX1_terrace_79 : decode cX1_terrace 79 = .ok (.putfield 158, 3) := dk_181 0 158 (dk_at dksX1_terrace_3 9 rfl rfl)
theorem dX1_terrace_82 : decode cX1_terrace 82 = .ok (.aload 4, 2) := dk_25 4 (dk_at dksX1_terrace_3 12 rfl rfl)
theorem dX1_terrace_84 : decode cX1_terrace 84 = .ok (.athrow, 1) := dk_191 (dk_at dksX1_terrace_3 14 rfl rfl)
abbrev cX1_need : ByteArray := prog_1_method_7_code
def yX1_need : MethodName := ⟨RX1, "need", "(Z)V"⟩
def dkwX1_need_0 : List UInt8 := [27, 153, 0, 4, 177, 42, 180, 0, 41, 4, 92, 46, 4, 96, 79, 187, 0, 143, 89, 183, 0, 145, 191]
abbrev dktX1_need_0 : List UInt8 := dkwX1_need_0 ++ []
theorem dksX1_need_0 : cX1_need.data.toList.drop 0 = dktX1_need_0 := by decide +kernel
theorem dX1_need_0 : decode cX1_need 0 = .ok (.iload_n 1, 1) := dk_27 (dk_at dksX1_need_0 0 rfl rfl)
theorem dX1_need_1 : decode cX1_need 1 = .ok (.ifCond .eq 4, 3) := dk_153 0 4 (dk_at dksX1_need_0 1 rfl rfl)
theorem dX1_need_4 : decode cX1_need 4 = .ok (.return_, 1) := dk_177 (dk_at dksX1_need_0 4 rfl rfl)
theorem dX1_need_5 : decode cX1_need 5 = .ok (.aload_n 0, 1) := dk_42 (dk_at dksX1_need_0 5 rfl rfl)
theorem dX1_need_6 : decode cX1_need 6 = .ok (.getfield 41, 3) := dk_180 0 41 (dk_at dksX1_need_0 6 rfl rfl)
theorem dX1_need_9 : decode cX1_need 9 = .ok (.iconst 1, 1) := dk_4 (dk_at dksX1_need_0 9 rfl rfl)
theorem dX1_need_10 : decode cX1_need 10 = .ok (.dup2, 1) := dk_92 (dk_at dksX1_need_0 10 rfl rfl)
theorem dX1_need_11 : decode cX1_need 11 = .ok (.iaload, 1) := dk_46 (dk_at dksX1_need_0 11 rfl rfl)
theorem dX1_need_12 : decode cX1_need 12 = .ok (.iconst 1, 1) := dk_4 (dk_at dksX1_need_0 12 rfl rfl)
theorem dX1_need_13 : decode cX1_need 13 = .ok (.iadd, 1) := dk_96 (dk_at dksX1_need_0 13 rfl rfl)
theorem dX1_need_14 : decode cX1_need 14 = .ok (.iastore, 1) := dk_79 (dk_at dksX1_need_0 14 rfl rfl)
theorem dX1_need_15 : decode cX1_need 15 = .ok (.new 143, 3) := dk_187 0 143 (dk_at dksX1_need_0 15 rfl rfl)
theorem dX1_need_18 : decode cX1_need 18 = .ok (.dup, 1) := dk_89 (dk_at dksX1_need_0 18 rfl rfl)
theorem dX1_need_19 : decode cX1_need 19 = .ok (.invokespecial 145, 3) := dk_183 0 145 (dk_at dksX1_need_0 19 rfl rfl)
theorem dX1_need_22 : decode cX1_need 22 = .ok (.athrow, 1) := dk_191 (dk_at dksX1_need_0 22 rfl rfl)
abbrev cX1_failed : ByteArray := prog_1_method_17_code
def yX1_failed : MethodName := ⟨RX1, "failed", "(LTunedHouses$Wrong;)I"⟩
def dkwX1_failed_0 : List UInt8 := [42, 43, 180, 0, 164, 181, 0, 69, 43, 180, 0, 169, 16, 10, 100, 172]
abbrev dktX1_failed_0 : List UInt8 := dkwX1_failed_0 ++ []
theorem dksX1_failed_0 : cX1_failed.data.toList.drop 0 = dktX1_failed_0 := by decide +kernel
theorem dX1_failed_0 : decode cX1_failed 0 = .ok (.aload_n 0, 1) := dk_42 (dk_at dksX1_failed_0 0 rfl rfl)
theorem dX1_failed_1 : decode cX1_failed 1 = .ok (.aload_n 1, 1) := dk_43 (dk_at dksX1_failed_0 1 rfl rfl)
theorem dX1_failed_2 : decode cX1_failed 2 = .ok (.getfield 164, 3) := dk_180 0 164 (dk_at dksX1_failed_0 2 rfl rfl)
theorem dX1_failed_5 : decode cX1_failed 5 = .ok (.putfield 69, 3) := dk_181 0 69 (dk_at dksX1_failed_0 5 rfl rfl)
theorem dX1_failed_8 : decode cX1_failed 8 = .ok (.aload_n 1, 1) := dk_43 (dk_at dksX1_failed_0 8 rfl rfl)
theorem dX1_failed_9 : decode cX1_failed 9 = .ok (.getfield 169, 3) := dk_180 0 169 (dk_at dksX1_failed_0 9 rfl rfl)
theorem dX1_failed_12 : decode cX1_failed 12 = .ok (.bipush 10, 2) := dk_16 10 (dk_at dksX1_failed_0 12 rfl rfl)
theorem dX1_failed_14 : decode cX1_failed 14 = .ok (.isub, 1) := dk_100 (dk_at dksX1_failed_0 14 rfl rfl)
theorem dX1_failed_15 : decode cX1_failed 15 = .ok (.ireturn, 1) := dk_172 (dk_at dksX1_failed_0 15 rfl rfl)
abbrev cX1_law : ByteArray := prog_1_method_19_code
def yX1_law : MethodName := ⟨RX1, "law", "(I)I"⟩
def dkwX1_law_3 : List UInt8 := [181, 0, 158, 29, 172, 58, 4, 42, 3, 181, 0, 158, 25, 4, 191]
abbrev dktX1_law_3 : List UInt8 := dkwX1_law_3 ++ []
def dkwX1_law_2 : List UInt8 := [182, 0, 192, 181, 0, 30, 4, 61, 42, 3, 181, 0, 158, 28, 172, 77, 42, 44, 182, 0, 185, 62, 42, 3]
abbrev dktX1_law_2 : List UInt8 := dkwX1_law_2 ++ dktX1_law_3
def dkwX1_law_1 : List UInt8 := [3, 182, 0, 172, 42, 2, 181, 0, 69, 42, 187, 0, 189, 89, 42, 180, 0, 73, 27, 183, 0, 191]
abbrev dktX1_law_1 : List UInt8 := dkwX1_law_1 ++ dktX1_law_2
def dkwX1_law_0 : List UInt8 := [42, 27, 155, 0, 22, 27, 42, 180, 0, 158, 163, 0, 14, 27, 17, 0, 150, 163, 0, 7, 4, 167, 0, 4]
abbrev dktX1_law_0 : List UInt8 := dkwX1_law_0 ++ dktX1_law_1
theorem dksX1_law_0 : cX1_law.data.toList.drop 0 = dktX1_law_0 := by decide +kernel
theorem dksX1_law_1 : cX1_law.data.toList.drop 24 = dktX1_law_1 := dk_seg dksX1_law_0 24 rfl rfl
theorem dksX1_law_2 : cX1_law.data.toList.drop 46 = dktX1_law_2 := dk_seg dksX1_law_1 22 rfl rfl
theorem dksX1_law_3 : cX1_law.data.toList.drop 70 = dktX1_law_3 := dk_seg dksX1_law_2 24 rfl rfl
theorem dX1_law_0 : decode cX1_law 0 = .ok (.aload_n 0, 1) := dk_42 (dk_at dksX1_law_0 0 rfl rfl)
theorem dX1_law_1 : decode cX1_law 1 = .ok (.iload_n 1, 1) := dk_27 (dk_at dksX1_law_0 1 rfl rfl)
theorem dX1_law_2 : decode cX1_law 2 = .ok (.ifCond .lt 22, 3) := dk_155 0 22 (dk_at dksX1_law_0 2 rfl rfl)
theorem dX1_law_5 : decode cX1_law 5 = .ok (.iload_n 1, 1) := dk_27 (dk_at dksX1_law_0 5 rfl rfl)
theorem dX1_law_6 : decode cX1_law 6 = .ok (.aload_n 0, 1) := dk_42 (dk_at dksX1_law_0 6 rfl rfl)
theorem dX1_law_7 : decode cX1_law 7 = .ok (.getfield 158, 3) := dk_180 0 158 (dk_at dksX1_law_0 7 rfl rfl)
theorem dX1_law_10 : decode cX1_law 10 = .ok (.if_icmp .gt 14, 3) := dk_163 0 14 (dk_at dksX1_law_0 10 rfl rfl)
theorem dX1_law_13 : decode cX1_law 13 = .ok (.iload_n 1, 1) := dk_27 (dk_at dksX1_law_0 13 rfl rfl)
theorem dX1_law_14 : decode cX1_law 14 = .ok (.sipush 150, 3) := dk_17 0 150 (dk_at dksX1_law_0 14 rfl rfl)
theorem dX1_law_17 : decode cX1_law 17 = .ok (.if_icmp .gt 7, 3) := dk_163 0 7 (dk_at dksX1_law_0 17 rfl rfl)
theorem dX1_law_20 : decode cX1_law 20 = .ok (.iconst 1, 1) := dk_4 (dk_at dksX1_law_0 20 rfl rfl)
theorem dX1_law_21 : decode cX1_law 21 = .ok (.goto 4, 3) := dk_167 0 4 (dk_at dksX1_law_0 21 rfl rfl)
theorem dX1_law_24 : decode cX1_law 24 = .ok (.iconst 0, 1) := dk_3 (dk_at dksX1_law_1 0 rfl rfl)
theorem dX1_law_25 : decode cX1_law 25 = .ok (.invokevirtual 172, 3) := dk_182 0 172 (dk_at dksX1_law_1 1 rfl rfl)
theorem dX1_law_28 : decode cX1_law 28 = .ok (.aload_n 0, 1) := dk_42 (dk_at dksX1_law_1 4 rfl rfl)
theorem dX1_law_29 : decode cX1_law 29 = .ok (.iconst (-1), 1) := dk_2 (dk_at dksX1_law_1 5 rfl rfl)
theorem dX1_law_30 : decode cX1_law 30 = .ok (.putfield 69, 3) := dk_181 0 69 (dk_at dksX1_law_1 6 rfl rfl)
theorem dX1_law_33 : decode cX1_law 33 = .ok (.aload_n 0, 1) := dk_42 (dk_at dksX1_law_1 9 rfl rfl)
theorem dX1_law_34 : decode cX1_law 34 = .ok (.new 189, 3) := dk_187 0 189 (dk_at dksX1_law_1 10 rfl rfl)
theorem dX1_law_37 : decode cX1_law 37 = .ok (.dup, 1) := dk_89 (dk_at dksX1_law_1 13 rfl rfl)
theorem dX1_law_38 : decode cX1_law 38 = .ok (.aload_n 0, 1) := dk_42 (dk_at dksX1_law_1 14 rfl rfl)
theorem dX1_law_39 : decode cX1_law 39 = .ok (.getfield 73, 3) := dk_180 0 73 (dk_at dksX1_law_1 15 rfl rfl)
theorem dX1_law_42 : decode cX1_law 42 = .ok (.iload_n 1, 1) := dk_27 (dk_at dksX1_law_1 18 rfl rfl)
theorem dX1_law_43 : decode cX1_law 43 = .ok (.invokespecial 191, 3) := dk_183 0 191 (dk_at dksX1_law_1 19 rfl rfl)
theorem dX1_law_46 : decode cX1_law 46 = .ok (.invokevirtual 192, 3) := dk_182 0 192 (dk_at dksX1_law_2 0 rfl rfl)
theorem dX1_law_49 : decode cX1_law 49 = .ok (.putfield 30, 3) := dk_181 0 30 (dk_at dksX1_law_2 3 rfl rfl)
theorem dX1_law_52 : decode cX1_law 52 = .ok (.iconst 1, 1) := dk_4 (dk_at dksX1_law_2 6 rfl rfl)
theorem dX1_law_53 : decode cX1_law 53 = .ok (.istore_n 2, 1) := dk_61 (dk_at dksX1_law_2 7 rfl rfl)
theorem dX1_law_54 : decode cX1_law 54 = .ok (.aload_n 0, 1) := dk_42 (dk_at dksX1_law_2 8 rfl rfl)
theorem dX1_law_55 : decode cX1_law 55 = .ok (.iconst 0, 1) := dk_3 (dk_at dksX1_law_2 9 rfl rfl)
theorem dX1_law_56 : decode cX1_law 56 = .ok (.putfield 158, 3) := dk_181 0 158 (dk_at dksX1_law_2 10 rfl rfl)
theorem dX1_law_59 : decode cX1_law 59 = .ok (.iload_n 2, 1) := dk_28 (dk_at dksX1_law_2 13 rfl rfl)
theorem dX1_law_60 : decode cX1_law 60 = .ok (.ireturn, 1) := dk_172 (dk_at dksX1_law_2 14 rfl rfl)
theorem dX1_law_61 : decode cX1_law 61 = .ok (.astore_n 2, 1) := dk_77 (dk_at dksX1_law_2 15 rfl rfl)
theorem dX1_law_62 : decode cX1_law 62 = .ok (.aload_n 0, 1) := dk_42 (dk_at dksX1_law_2 16 rfl rfl)
theorem dX1_law_63 : decode cX1_law 63 = .ok (.aload_n 2, 1) := dk_44 (dk_at dksX1_law_2 17 rfl rfl)
theorem dX1_law_64 : decode cX1_law 64 = .ok (.invokevirtual 185, 3) := dk_182 0 185 (dk_at dksX1_law_2 18 rfl rfl)
theorem dX1_law_67 : decode cX1_law 67 = .ok (.istore_n 3, 1) := dk_62 (dk_at dksX1_law_2 21 rfl rfl)
theorem dX1_law_68 : decode cX1_law 68 = .ok (.aload_n 0, 1) := dk_42 (dk_at dksX1_law_2 22 rfl rfl)
theorem dX1_law_69 : decode cX1_law 69 = .ok (.iconst 0, 1) := dk_3 (dk_at dksX1_law_2 23 rfl rfl)
theorem dX1_law_70 : decode cX1_law 70 = .ok (.putfield 158, 3) := dk_181 0 158 (dk_at dksX1_law_3 0 rfl rfl)
theorem dX1_law_73 : decode cX1_law 73 = .ok (.iload_n 3, 1) := dk_29 (dk_at dksX1_law_3 3 rfl rfl)
theorem dX1_law_74 : decode cX1_law 74 = .ok (.ireturn, 1) := dk_172 (dk_at dksX1_law_3 4 rfl rfl)
theorem dX1_law_75 : decode cX1_law 75 = .ok (.astore 4, 2) := dk_58 4 (dk_at dksX1_law_3 5 rfl rfl)
theorem dX1_law_77 : decode cX1_law 77 = .ok (.aload_n 0, 1) := dk_42 (dk_at dksX1_law_3 7 rfl rfl)
theorem dX1_law_78 : decode cX1_law 78 = .ok (.iconst 0, 1) := dk_3 (dk_at dksX1_law_3 8 rfl rfl)
theorem dX1_law_79 : decode cX1_law 79 = .ok (.putfield 158, 3) := dk_181 0 158 (dk_at dksX1_law_3 9 rfl rfl)
theorem dX1_law_82 : decode cX1_law 82 = .ok (.aload 4, 2) := dk_25 4 (dk_at dksX1_law_3 12 rfl rfl)
theorem dX1_law_84 : decode cX1_law 84 = .ok (.athrow, 1) := dk_191 (dk_at dksX1_law_3 14 rfl rfl)
abbrev cX1_work : ByteArray := prog_1_method_20_code
def yX1_work : MethodName := ⟨RX1, "work", "(I)I"⟩
def dkwX1_work_8 : List UInt8 := [181, 0, 158, 29, 172, 58, 4, 42, 3, 181, 0, 158, 25, 4, 191]
abbrev dktX1_work_8 : List UInt8 := dkwX1_work_8 ++ []
def dkwX1_work_7 : List UInt8 := [180, 0, 49, 180, 0, 209, 62, 42, 3, 181, 0, 158, 29, 172, 77, 42, 44, 182, 0, 185, 62, 42, 3]
abbrev dktX1_work_7 : List UInt8 := dkwX1_work_7 ++ dktX1_work_8
def dkwX1_work_6 : List UInt8 := [180, 0, 49, 182, 0, 216, 132, 3, 1, 167, 255, 230, 42, 42, 180, 0, 49, 180, 0, 212, 181, 0, 103, 42]
abbrev dktX1_work_6 : List UInt8 := dkwX1_work_6 ++ dktX1_work_7
def dkwX1_work_5 : List UInt8 := [181, 0, 212, 3, 62, 29, 44, 182, 0, 116, 162, 0, 24, 44, 29, 182, 0, 122, 192, 0, 214, 42]
abbrev dktX1_work_5 : List UInt8 := dkwX1_work_5 ++ dktX1_work_6
def dkwX1_work_4 : List UInt8 := [181, 0, 100, 42, 180, 0, 49, 3, 181, 0, 206, 42, 180, 0, 49, 3, 181, 0, 209, 42, 180, 0, 49, 3]
abbrev dktX1_work_4 : List UInt8 := dkwX1_work_4 ++ dktX1_work_5
def dkwX1_work_3 : List UInt8 := [77, 42, 42, 180, 0, 56, 42, 180, 0, 100, 42, 180, 0, 49, 182, 0, 202, 42, 89, 180, 0, 100, 4, 96]
abbrev dktX1_work_3 : List UInt8 := dkwX1_work_3 ++ dktX1_work_4
def dkwX1_work_2 : List UInt8 := [181, 0, 158, 28, 172, 187, 0, 194, 89, 42, 180, 0, 73, 27, 42, 180, 0, 22, 183, 0, 196, 182, 0, 199]
abbrev dktX1_work_2 : List UInt8 := dkwX1_work_2 ++ dktX1_work_3
def dkwX1_work_1 : List UInt8 := [3, 182, 0, 172, 42, 2, 181, 0, 69, 42, 180, 0, 100, 16, 16, 160, 0, 13, 16, 236, 61, 42, 3]
abbrev dktX1_work_1 : List UInt8 := dkwX1_work_1 ++ dktX1_work_2
def dkwX1_work_0 : List UInt8 := [42, 27, 155, 0, 22, 27, 42, 180, 0, 158, 163, 0, 14, 27, 17, 0, 150, 163, 0, 7, 4, 167, 0, 4]
abbrev dktX1_work_0 : List UInt8 := dkwX1_work_0 ++ dktX1_work_1
theorem dksX1_work_0 : cX1_work.data.toList.drop 0 = dktX1_work_0 := by decide +kernel
theorem dksX1_work_1 : cX1_work.data.toList.drop 24 = dktX1_work_1 := dk_seg dksX1_work_0 24 rfl rfl
theorem dksX1_work_2 : cX1_work.data.toList.drop 47 = dktX1_work_2 := dk_seg dksX1_work_1 23 rfl rfl
theorem dksX1_work_3 : cX1_work.data.toList.drop 71 = dktX1_work_3 := dk_seg dksX1_work_2 24 rfl rfl
theorem dksX1_work_4 : cX1_work.data.toList.drop 95 = dktX1_work_4 := dk_seg dksX1_work_3 24 rfl rfl
theorem dksX1_work_5 : cX1_work.data.toList.drop 119 = dktX1_work_5 := dk_seg dksX1_work_4 24 rfl rfl
theorem dksX1_work_6 : cX1_work.data.toList.drop 141 = dktX1_work_6 := dk_seg dksX1_work_5 22 rfl rfl
theorem dksX1_work_7 : cX1_work.data.toList.drop 165 = dktX1_work_7 := dk_seg dksX1_work_6 24 rfl rfl
theorem dksX1_work_8 : cX1_work.data.toList.drop 188 = dktX1_work_8 := dk_seg dksX1_work_7 23 rfl rfl
theorem dX1_work_0 : decode cX1_work 0 = .ok (.aload_n 0, 1) := dk_42 (dk_at dksX1_work_0 0 rfl rfl)
theorem dX1_work_1 : decode cX1_work 1 = .ok (.iload_n 1, 1) := dk_27 (dk_at dksX1_work_0 1 rfl rfl)
theorem dX1_work_2 : decode cX1_work 2 = .ok (.ifCond .lt 22, 3) := dk_155 0 22 (dk_at dksX1_work_0 2 rfl rfl)
theorem dX1_work_5 : decode cX1_work 5 = .ok (.iload_n 1, 1) := dk_27 (dk_at dksX1_work_0 5 rfl rfl)
theorem dX1_work_6 : decode cX1_work 6 = .ok (.aload_n 0, 1) := dk_42 (dk_at dksX1_work_0 6 rfl rfl)
theorem dX1_work_7 : decode cX1_work 7 = .ok (.getfield 158, 3) := dk_180 0 158 (dk_at dksX1_work_0 7 rfl rfl)
theorem dX1_work_10 : decode cX1_work 10 = .ok (.if_icmp .gt 14, 3) := dk_163 0 14 (dk_at dksX1_work_0 10 rfl rfl)
theorem dX1_work_13 : decode cX1_work 13 = .ok (.iload_n 1, 1) := dk_27 (dk_at dksX1_work_0 13 rfl rfl)
theorem dX1_work_14 : decode cX1_work 14 = .ok (.sipush 150, 3) := dk_17 0 150 (dk_at dksX1_work_0 14 rfl rfl)
theorem dX1_work_17 : decode cX1_work 17 = .ok (.if_icmp .gt 7, 3) := dk_163 0 7 (dk_at dksX1_work_0 17 rfl rfl)
theorem dX1_work_20 : decode cX1_work 20 = .ok (.iconst 1, 1) := dk_4 (dk_at dksX1_work_0 20 rfl rfl)
theorem dX1_work_21 : decode cX1_work 21 = .ok (.goto 4, 3) := dk_167 0 4 (dk_at dksX1_work_0 21 rfl rfl)
theorem dX1_work_24 : decode cX1_work 24 = .ok (.iconst 0, 1) := dk_3 (dk_at dksX1_work_1 0 rfl rfl)
theorem dX1_work_25 : decode cX1_work 25 = .ok (.invokevirtual 172, 3) := dk_182 0 172 (dk_at dksX1_work_1 1 rfl rfl)
theorem dX1_work_28 : decode cX1_work 28 = .ok (.aload_n 0, 1) := dk_42 (dk_at dksX1_work_1 4 rfl rfl)
theorem dX1_work_29 : decode cX1_work 29 = .ok (.iconst (-1), 1) := dk_2 (dk_at dksX1_work_1 5 rfl rfl)
theorem dX1_work_30 : decode cX1_work 30 = .ok (.putfield 69, 3) := dk_181 0 69 (dk_at dksX1_work_1 6 rfl rfl)
theorem dX1_work_33 : decode cX1_work 33 = .ok (.aload_n 0, 1) := dk_42 (dk_at dksX1_work_1 9 rfl rfl)
theorem dX1_work_34 : decode cX1_work 34 = .ok (.getfield 100, 3) := dk_180 0 100 (dk_at dksX1_work_1 10 rfl rfl)
theorem dX1_work_37 : decode cX1_work 37 = .ok (.bipush 16, 2) := dk_16 16 (dk_at dksX1_work_1 13 rfl rfl)
theorem dX1_work_39 : decode cX1_work 39 = .ok (.if_icmp .ne 13, 3) := dk_160 0 13 (dk_at dksX1_work_1 15 rfl rfl)
theorem dX1_work_42 : decode cX1_work 42 = .ok (.bipush (-20), 2) := dk_16 236 (dk_at dksX1_work_1 18 rfl rfl)
theorem dX1_work_44 : decode cX1_work 44 = .ok (.istore_n 2, 1) := dk_61 (dk_at dksX1_work_1 20 rfl rfl)
theorem dX1_work_45 : decode cX1_work 45 = .ok (.aload_n 0, 1) := dk_42 (dk_at dksX1_work_1 21 rfl rfl)
theorem dX1_work_46 : decode cX1_work 46 = .ok (.iconst 0, 1) := dk_3 (dk_at dksX1_work_1 22 rfl rfl)
theorem dX1_work_47 : decode cX1_work 47 = .ok (.putfield 158, 3) := dk_181 0 158 (dk_at dksX1_work_2 0 rfl rfl)
theorem dX1_work_50 : decode cX1_work 50 = .ok (.iload_n 2, 1) := dk_28 (dk_at dksX1_work_2 3 rfl rfl)
theorem dX1_work_51 : decode cX1_work 51 = .ok (.ireturn, 1) := dk_172 (dk_at dksX1_work_2 4 rfl rfl)
theorem dX1_work_52 : decode cX1_work 52 = .ok (.new 194, 3) := dk_187 0 194 (dk_at dksX1_work_2 5 rfl rfl)
theorem dX1_work_55 : decode cX1_work 55 = .ok (.dup, 1) := dk_89 (dk_at dksX1_work_2 8 rfl rfl)
theorem dX1_work_56 : decode cX1_work 56 = .ok (.aload_n 0, 1) := dk_42 (dk_at dksX1_work_2 9 rfl rfl)
theorem dX1_work_57 : decode cX1_work 57 = .ok (.getfield 73, 3) := dk_180 0 73 (dk_at dksX1_work_2 10 rfl rfl)
theorem dX1_work_60 : decode cX1_work 60 = .ok (.iload_n 1, 1) := dk_27 (dk_at dksX1_work_2 13 rfl rfl)
theorem dX1_work_61 : decode cX1_work 61 = .ok (.aload_n 0, 1) := dk_42 (dk_at dksX1_work_2 14 rfl rfl)
theorem dX1_work_62 : decode cX1_work 62 = .ok (.getfield 22, 3) := dk_180 0 22 (dk_at dksX1_work_2 15 rfl rfl)
theorem dX1_work_65 : decode cX1_work 65 = .ok (.invokespecial 196, 3) := dk_183 0 196 (dk_at dksX1_work_2 18 rfl rfl)
theorem dX1_work_68 : decode cX1_work 68 = .ok (.invokevirtual 199, 3) := dk_182 0 199 (dk_at dksX1_work_2 21 rfl rfl)
theorem dX1_work_71 : decode cX1_work 71 = .ok (.astore_n 2, 1) := dk_77 (dk_at dksX1_work_3 0 rfl rfl)
theorem dX1_work_72 : decode cX1_work 72 = .ok (.aload_n 0, 1) := dk_42 (dk_at dksX1_work_3 1 rfl rfl)
theorem dX1_work_73 : decode cX1_work 73 = .ok (.aload_n 0, 1) := dk_42 (dk_at dksX1_work_3 2 rfl rfl)
theorem dX1_work_74 : decode cX1_work 74 = .ok (.getfield 56, 3) := dk_180 0 56 (dk_at dksX1_work_3 3 rfl rfl)
theorem dX1_work_77 : decode cX1_work 77 = .ok (.aload_n 0, 1) := dk_42 (dk_at dksX1_work_3 6 rfl rfl)
theorem dX1_work_78 : decode cX1_work 78 = .ok (.getfield 100, 3) := dk_180 0 100 (dk_at dksX1_work_3 7 rfl rfl)
theorem dX1_work_81 : decode cX1_work 81 = .ok (.aload_n 0, 1) := dk_42 (dk_at dksX1_work_3 10 rfl rfl)
theorem dX1_work_82 : decode cX1_work 82 = .ok (.getfield 49, 3) := dk_180 0 49 (dk_at dksX1_work_3 11 rfl rfl)
theorem dX1_work_85 : decode cX1_work 85 = .ok (.invokevirtual 202, 3) := dk_182 0 202 (dk_at dksX1_work_3 14 rfl rfl)
theorem dX1_work_88 : decode cX1_work 88 = .ok (.aload_n 0, 1) := dk_42 (dk_at dksX1_work_3 17 rfl rfl)
theorem dX1_work_89 : decode cX1_work 89 = .ok (.dup, 1) := dk_89 (dk_at dksX1_work_3 18 rfl rfl)
theorem dX1_work_90 : decode cX1_work 90 = .ok (.getfield 100, 3) := dk_180 0 100 (dk_at dksX1_work_3 19 rfl rfl)
theorem dX1_work_93 : decode cX1_work 93 = .ok (.iconst 1, 1) := dk_4 (dk_at dksX1_work_3 22 rfl rfl)
theorem dX1_work_94 : decode cX1_work 94 = .ok (.iadd, 1) := dk_96 (dk_at dksX1_work_3 23 rfl rfl)
theorem dX1_work_95 : decode cX1_work 95 = .ok (.putfield 100, 3) := dk_181 0 100 (dk_at dksX1_work_4 0 rfl rfl)
theorem dX1_work_98 : decode cX1_work 98 = .ok (.aload_n 0, 1) := dk_42 (dk_at dksX1_work_4 3 rfl rfl)
theorem dX1_work_99 : decode cX1_work 99 = .ok (.getfield 49, 3) := dk_180 0 49 (dk_at dksX1_work_4 4 rfl rfl)
theorem dX1_work_102 : decode cX1_work 102 = .ok (.iconst 0, 1) := dk_3 (dk_at dksX1_work_4 7 rfl rfl)
theorem dX1_work_103 : decode cX1_work 103 = .ok (.putfield 206, 3) := dk_181 0 206 (dk_at dksX1_work_4 8 rfl rfl)
theorem dX1_work_106 : decode cX1_work 106 = .ok (.aload_n 0, 1) := dk_42 (dk_at dksX1_work_4 11 rfl rfl)
theorem dX1_work_107 : decode cX1_work 107 = .ok (.getfield 49, 3) := dk_180 0 49 (dk_at dksX1_work_4 12 rfl rfl)
theorem dX1_work_110 : decode cX1_work 110 = .ok (.iconst 0, 1) := dk_3 (dk_at dksX1_work_4 15 rfl rfl)
theorem dX1_work_111 : decode cX1_work 111 = .ok (.putfield 209, 3) := dk_181 0 209 (dk_at dksX1_work_4 16 rfl rfl)
theorem dX1_work_114 : decode cX1_work 114 = .ok (.aload_n 0, 1) := dk_42 (dk_at dksX1_work_4 19 rfl rfl)
theorem dX1_work_115 : decode cX1_work 115 = .ok (.getfield 49, 3) := dk_180 0 49 (dk_at dksX1_work_4 20 rfl rfl)
theorem dX1_work_118 : decode cX1_work 118 = .ok (.iconst 0, 1) := dk_3 (dk_at dksX1_work_4 23 rfl rfl)
theorem dX1_work_119 : decode cX1_work 119 = .ok (.putfield 212, 3) := dk_181 0 212 (dk_at dksX1_work_5 0 rfl rfl)
theorem dX1_work_122 : decode cX1_work 122 = .ok (.iconst 0, 1) := dk_3 (dk_at dksX1_work_5 3 rfl rfl)
theorem dX1_work_123 : decode cX1_work 123 = .ok (.istore_n 3, 1) := dk_62 (dk_at dksX1_work_5 4 rfl rfl)
theorem dX1_work_124 : decode cX1_work 124 = .ok (.iload_n 3, 1) := dk_29 (dk_at dksX1_work_5 5 rfl rfl)
theorem dX1_work_125 : decode cX1_work 125 = .ok (.aload_n 2, 1) := dk_44 (dk_at dksX1_work_5 6 rfl rfl)
theorem dX1_work_126 : decode cX1_work 126 = .ok (.invokevirtual 116, 3) := dk_182 0 116 (dk_at dksX1_work_5 7 rfl rfl)
theorem dX1_work_129 : decode cX1_work 129 = .ok (.if_icmp .ge 24, 3) := dk_162 0 24 (dk_at dksX1_work_5 10 rfl rfl)
theorem dX1_work_132 : decode cX1_work 132 = .ok (.aload_n 2, 1) := dk_44 (dk_at dksX1_work_5 13 rfl rfl)
theorem dX1_work_133 : decode cX1_work 133 = .ok (.iload_n 3, 1) := dk_29 (dk_at dksX1_work_5 14 rfl rfl)
theorem dX1_work_134 : decode cX1_work 134 = .ok (.invokevirtual 122, 3) := dk_182 0 122 (dk_at dksX1_work_5 15 rfl rfl)
theorem dX1_work_137 : decode cX1_work 137 = .ok (.checkcast 214, 3) := dk_192 0 214 (dk_at dksX1_work_5 18 rfl rfl)
theorem dX1_work_140 : decode cX1_work 140 = .ok (.aload_n 0, 1) := dk_42 (dk_at dksX1_work_5 21 rfl rfl)
theorem dX1_work_141 : decode cX1_work 141 = .ok (.getfield 49, 3) := dk_180 0 49 (dk_at dksX1_work_6 0 rfl rfl)
theorem dX1_work_144 : decode cX1_work 144 = .ok (.invokevirtual 216, 3) := dk_182 0 216 (dk_at dksX1_work_6 3 rfl rfl)
theorem dX1_work_147 : decode cX1_work 147 = .ok (.iinc 3 1, 3) := dk_132 3 1 (dk_at dksX1_work_6 6 rfl rfl)
theorem dX1_work_150 : decode cX1_work 150 = .ok (.goto (-26), 3) := dk_167 255 230 (dk_at dksX1_work_6 9 rfl rfl)
theorem dX1_work_153 : decode cX1_work 153 = .ok (.aload_n 0, 1) := dk_42 (dk_at dksX1_work_6 12 rfl rfl)
theorem dX1_work_154 : decode cX1_work 154 = .ok (.aload_n 0, 1) := dk_42 (dk_at dksX1_work_6 13 rfl rfl)
theorem dX1_work_155 : decode cX1_work 155 = .ok (.getfield 49, 3) := dk_180 0 49 (dk_at dksX1_work_6 14 rfl rfl)
theorem dX1_work_158 : decode cX1_work 158 = .ok (.getfield 212, 3) := dk_180 0 212 (dk_at dksX1_work_6 17 rfl rfl)
theorem dX1_work_161 : decode cX1_work 161 = .ok (.putfield 103, 3) := dk_181 0 103 (dk_at dksX1_work_6 20 rfl rfl)
theorem dX1_work_164 : decode cX1_work 164 = .ok (.aload_n 0, 1) := dk_42 (dk_at dksX1_work_6 23 rfl rfl)
theorem dX1_work_165 : decode cX1_work 165 = .ok (.getfield 49, 3) := dk_180 0 49 (dk_at dksX1_work_7 0 rfl rfl)
theorem dX1_work_168 : decode cX1_work 168 = .ok (.getfield 209, 3) := dk_180 0 209 (dk_at dksX1_work_7 3 rfl rfl)
theorem dX1_work_171 : decode cX1_work 171 = .ok (.istore_n 3, 1) := dk_62 (dk_at dksX1_work_7 6 rfl rfl)
theorem dX1_work_172 : decode cX1_work 172 = .ok (.aload_n 0, 1) := dk_42 (dk_at dksX1_work_7 7 rfl rfl)
theorem dX1_work_173 : decode cX1_work 173 = .ok (.iconst 0, 1) := dk_3 (dk_at dksX1_work_7 8 rfl rfl)
theorem dX1_work_174 : decode cX1_work 174 = .ok (.putfield 158, 3) := dk_181 0 158 (dk_at dksX1_work_7 9 rfl rfl)
theorem dX1_work_177 : decode cX1_work 177 = .ok (.iload_n 3, 1) := dk_29 (dk_at dksX1_work_7 12 rfl rfl)
theorem dX1_work_178 : decode cX1_work 178 = .ok (.ireturn, 1) := dk_172 (dk_at dksX1_work_7 13 rfl rfl)
theorem dX1_work_179 : decode cX1_work 179 = .ok (.astore_n 2, 1) := dk_77 (dk_at dksX1_work_7 14 rfl rfl)
theorem dX1_work_180 : decode cX1_work 180 = .ok (.aload_n 0, 1) := dk_42 (dk_at dksX1_work_7 15 rfl rfl)
theorem dX1_work_181 : decode cX1_work 181 = .ok (.aload_n 2, 1) := dk_44 (dk_at dksX1_work_7 16 rfl rfl)
theorem dX1_work_182 : decode cX1_work 182 = .ok (.invokevirtual 185, 3) := dk_182 0 185 (dk_at dksX1_work_7 17 rfl rfl)
theorem dX1_work_185 : decode cX1_work 185 = .ok (.istore_n 3, 1) := dk_62 (dk_at dksX1_work_7 20 rfl rfl)
theorem dX1_work_186 : decode cX1_work 186 = .ok (.aload_n 0, 1) := dk_42 (dk_at dksX1_work_7 21 rfl rfl)
theorem dX1_work_187 : decode cX1_work 187 = .ok (.iconst 0, 1) := dk_3 (dk_at dksX1_work_7 22 rfl rfl)
theorem dX1_work_188 : decode cX1_work 188 = .ok (.putfield 158, 3) := dk_181 0 158 (dk_at dksX1_work_8 0 rfl rfl)
theorem dX1_work_191 : decode cX1_work 191 = .ok (.iload_n 3, 1) := dk_29 (dk_at dksX1_work_8 3 rfl rfl)
theorem dX1_work_192 : decode cX1_work 192 = .ok (.ireturn, 1) := dk_172 (dk_at dksX1_work_8 4 rfl rfl)
theorem dX1_work_193 : decode cX1_work 193 = .ok (.astore 4, 2) := dk_58 4 (dk_at dksX1_work_8 5 rfl rfl)
theorem dX1_work_195 : decode cX1_work 195 = .ok (.aload_n 0, 1) := dk_42 (dk_at dksX1_work_8 7 rfl rfl)
theorem dX1_work_196 : decode cX1_work 196 = .ok (.iconst 0, 1) := dk_3 (dk_at dksX1_work_8 8 rfl rfl)
theorem dX1_work_197 : decode cX1_work 197 = .ok (.putfield 158, 3) := dk_181 0 158 (dk_at dksX1_work_8 9 rfl rfl)
theorem dX1_work_200 : decode cX1_work 200 = .ok (.aload 4, 2) := dk_25 4 (dk_at dksX1_work_8 12 rfl rfl)
theorem dX1_work_202 : decode cX1_work 202 = .ok (.athrow, 1) := dk_191 (dk_at dksX1_work_8 14 rfl rfl)
abbrev cX1_forceBy : ByteArray := prog_1_method_6_code
def yX1_forceBy : MethodName := ⟨RX1, "forceBy", "(IIIIIIII)I"⟩
def dkwX1_forceBy_3 : List UInt8 := [42, 180, 0, 34, 182, 0, 128, 184, 0, 134, 184, 0, 140, 172]
abbrev dktX1_forceBy_3 : List UInt8 := dkwX1_forceBy_3 ++ []
def dkwX1_forceBy_2 : List UInt8 := [180, 0, 34, 16, 6, 21, 7, 79, 42, 180, 0, 34, 16, 7, 21, 8, 79, 3, 16, 40, 42, 180, 0, 30]
abbrev dktX1_forceBy_2 : List UInt8 := dkwX1_forceBy_2 ++ dktX1_forceBy_3
def dkwX1_forceBy_1 : List UInt8 := [180, 0, 34, 6, 21, 4, 79, 42, 180, 0, 34, 7, 21, 5, 79, 42, 180, 0, 34, 8, 21, 6, 79, 42]
abbrev dktX1_forceBy_1 : List UInt8 := dkwX1_forceBy_1 ++ dktX1_forceBy_2
def dkwX1_forceBy_0 : List UInt8 := [42, 180, 0, 34, 3, 27, 79, 42, 180, 0, 34, 4, 28, 79, 42, 180, 0, 34, 5, 29, 79, 42]
abbrev dktX1_forceBy_0 : List UInt8 := dkwX1_forceBy_0 ++ dktX1_forceBy_1
theorem dksX1_forceBy_0 : cX1_forceBy.data.toList.drop 0 = dktX1_forceBy_0 := by decide +kernel
theorem dksX1_forceBy_1 : cX1_forceBy.data.toList.drop 22 = dktX1_forceBy_1 := dk_seg dksX1_forceBy_0 22 rfl rfl
theorem dksX1_forceBy_2 : cX1_forceBy.data.toList.drop 46 = dktX1_forceBy_2 := dk_seg dksX1_forceBy_1 24 rfl rfl
theorem dksX1_forceBy_3 : cX1_forceBy.data.toList.drop 70 = dktX1_forceBy_3 := dk_seg dksX1_forceBy_2 24 rfl rfl
theorem dX1_forceBy_0 : decode cX1_forceBy 0 = .ok (.aload_n 0, 1) := dk_42 (dk_at dksX1_forceBy_0 0 rfl rfl)
theorem dX1_forceBy_1 : decode cX1_forceBy 1 = .ok (.getfield 34, 3) := dk_180 0 34 (dk_at dksX1_forceBy_0 1 rfl rfl)
theorem dX1_forceBy_4 : decode cX1_forceBy 4 = .ok (.iconst 0, 1) := dk_3 (dk_at dksX1_forceBy_0 4 rfl rfl)
theorem dX1_forceBy_5 : decode cX1_forceBy 5 = .ok (.iload_n 1, 1) := dk_27 (dk_at dksX1_forceBy_0 5 rfl rfl)
theorem dX1_forceBy_6 : decode cX1_forceBy 6 = .ok (.iastore, 1) := dk_79 (dk_at dksX1_forceBy_0 6 rfl rfl)
theorem dX1_forceBy_7 : decode cX1_forceBy 7 = .ok (.aload_n 0, 1) := dk_42 (dk_at dksX1_forceBy_0 7 rfl rfl)
theorem dX1_forceBy_8 : decode cX1_forceBy 8 = .ok (.getfield 34, 3) := dk_180 0 34 (dk_at dksX1_forceBy_0 8 rfl rfl)
theorem dX1_forceBy_11 : decode cX1_forceBy 11 = .ok (.iconst 1, 1) := dk_4 (dk_at dksX1_forceBy_0 11 rfl rfl)
theorem dX1_forceBy_12 : decode cX1_forceBy 12 = .ok (.iload_n 2, 1) := dk_28 (dk_at dksX1_forceBy_0 12 rfl rfl)
theorem dX1_forceBy_13 : decode cX1_forceBy 13 = .ok (.iastore, 1) := dk_79 (dk_at dksX1_forceBy_0 13 rfl rfl)
theorem dX1_forceBy_14 : decode cX1_forceBy 14 = .ok (.aload_n 0, 1) := dk_42 (dk_at dksX1_forceBy_0 14 rfl rfl)
theorem dX1_forceBy_15 : decode cX1_forceBy 15 = .ok (.getfield 34, 3) := dk_180 0 34 (dk_at dksX1_forceBy_0 15 rfl rfl)
theorem dX1_forceBy_18 : decode cX1_forceBy 18 = .ok (.iconst 2, 1) := dk_5 (dk_at dksX1_forceBy_0 18 rfl rfl)
theorem dX1_forceBy_19 : decode cX1_forceBy 19 = .ok (.iload_n 3, 1) := dk_29 (dk_at dksX1_forceBy_0 19 rfl rfl)
theorem dX1_forceBy_20 : decode cX1_forceBy 20 = .ok (.iastore, 1) := dk_79 (dk_at dksX1_forceBy_0 20 rfl rfl)
theorem dX1_forceBy_21 : decode cX1_forceBy 21 = .ok (.aload_n 0, 1) := dk_42 (dk_at dksX1_forceBy_0 21 rfl rfl)
theorem dX1_forceBy_22 : decode cX1_forceBy 22 = .ok (.getfield 34, 3) := dk_180 0 34 (dk_at dksX1_forceBy_1 0 rfl rfl)
theorem dX1_forceBy_25 : decode cX1_forceBy 25 = .ok (.iconst 3, 1) := dk_6 (dk_at dksX1_forceBy_1 3 rfl rfl)
theorem dX1_forceBy_26 : decode cX1_forceBy 26 = .ok (.iload 4, 2) := dk_21 4 (dk_at dksX1_forceBy_1 4 rfl rfl)
theorem dX1_forceBy_28 : decode cX1_forceBy 28 = .ok (.iastore, 1) := dk_79 (dk_at dksX1_forceBy_1 6 rfl rfl)
theorem dX1_forceBy_29 : decode cX1_forceBy 29 = .ok (.aload_n 0, 1) := dk_42 (dk_at dksX1_forceBy_1 7 rfl rfl)
theorem dX1_forceBy_30 : decode cX1_forceBy 30 = .ok (.getfield 34, 3) := dk_180 0 34 (dk_at dksX1_forceBy_1 8 rfl rfl)
theorem dX1_forceBy_33 : decode cX1_forceBy 33 = .ok (.iconst 4, 1) := dk_7 (dk_at dksX1_forceBy_1 11 rfl rfl)
theorem dX1_forceBy_34 : decode cX1_forceBy 34 = .ok (.iload 5, 2) := dk_21 5 (dk_at dksX1_forceBy_1 12 rfl rfl)
theorem dX1_forceBy_36 : decode cX1_forceBy 36 = .ok (.iastore, 1) := dk_79 (dk_at dksX1_forceBy_1 14 rfl rfl)
theorem dX1_forceBy_37 : decode cX1_forceBy 37 = .ok (.aload_n 0, 1) := dk_42 (dk_at dksX1_forceBy_1 15 rfl rfl)
theorem dX1_forceBy_38 : decode cX1_forceBy 38 = .ok (.getfield 34, 3) := dk_180 0 34 (dk_at dksX1_forceBy_1 16 rfl rfl)
theorem dX1_forceBy_41 : decode cX1_forceBy 41 = .ok (.iconst 5, 1) := dk_8 (dk_at dksX1_forceBy_1 19 rfl rfl)
theorem dX1_forceBy_42 : decode cX1_forceBy 42 = .ok (.iload 6, 2) := dk_21 6 (dk_at dksX1_forceBy_1 20 rfl rfl)
theorem dX1_forceBy_44 : decode cX1_forceBy 44 = .ok (.iastore, 1) := dk_79 (dk_at dksX1_forceBy_1 22 rfl rfl)
theorem dX1_forceBy_45 : decode cX1_forceBy 45 = .ok (.aload_n 0, 1) := dk_42 (dk_at dksX1_forceBy_1 23 rfl rfl)
theorem dX1_forceBy_46 : decode cX1_forceBy 46 = .ok (.getfield 34, 3) := dk_180 0 34 (dk_at dksX1_forceBy_2 0 rfl rfl)
theorem dX1_forceBy_49 : decode cX1_forceBy 49 = .ok (.bipush 6, 2) := dk_16 6 (dk_at dksX1_forceBy_2 3 rfl rfl)
theorem dX1_forceBy_51 : decode cX1_forceBy 51 = .ok (.iload 7, 2) := dk_21 7 (dk_at dksX1_forceBy_2 5 rfl rfl)
theorem dX1_forceBy_53 : decode cX1_forceBy 53 = .ok (.iastore, 1) := dk_79 (dk_at dksX1_forceBy_2 7 rfl rfl)
theorem dX1_forceBy_54 : decode cX1_forceBy 54 = .ok (.aload_n 0, 1) := dk_42 (dk_at dksX1_forceBy_2 8 rfl rfl)
theorem dX1_forceBy_55 : decode cX1_forceBy 55 = .ok (.getfield 34, 3) := dk_180 0 34 (dk_at dksX1_forceBy_2 9 rfl rfl)
theorem dX1_forceBy_58 : decode cX1_forceBy 58 = .ok (.bipush 7, 2) := dk_16 7 (dk_at dksX1_forceBy_2 12 rfl rfl)
theorem dX1_forceBy_60 : decode cX1_forceBy 60 = .ok (.iload 8, 2) := dk_21 8 (dk_at dksX1_forceBy_2 14 rfl rfl)
theorem dX1_forceBy_62 : decode cX1_forceBy 62 = .ok (.iastore, 1) := dk_79 (dk_at dksX1_forceBy_2 16 rfl rfl)
theorem dX1_forceBy_63 : decode cX1_forceBy 63 = .ok (.iconst 0, 1) := dk_3 (dk_at dksX1_forceBy_2 17 rfl rfl)
theorem dX1_forceBy_64 : decode cX1_forceBy 64 = .ok (.bipush 40, 2) := dk_16 40 (dk_at dksX1_forceBy_2 18 rfl rfl)
theorem dX1_forceBy_66 : decode cX1_forceBy 66 = .ok (.aload_n 0, 1) := dk_42 (dk_at dksX1_forceBy_2 20 rfl rfl)
theorem dX1_forceBy_67 : decode cX1_forceBy 67 = .ok (.getfield 30, 3) := dk_180 0 30 (dk_at dksX1_forceBy_2 21 rfl rfl)
theorem dX1_forceBy_70 : decode cX1_forceBy 70 = .ok (.aload_n 0, 1) := dk_42 (dk_at dksX1_forceBy_3 0 rfl rfl)
theorem dX1_forceBy_71 : decode cX1_forceBy 71 = .ok (.getfield 34, 3) := dk_180 0 34 (dk_at dksX1_forceBy_3 1 rfl rfl)
theorem dX1_forceBy_74 : decode cX1_forceBy 74 = .ok (.invokevirtual 128, 3) := dk_182 0 128 (dk_at dksX1_forceBy_3 4 rfl rfl)
theorem dX1_forceBy_77 : decode cX1_forceBy 77 = .ok (.invokestatic 134, 3) := dk_184 0 134 (dk_at dksX1_forceBy_3 7 rfl rfl)
theorem dX1_forceBy_80 : decode cX1_forceBy 80 = .ok (.invokestatic 140, 3) := dk_184 0 140 (dk_at dksX1_forceBy_3 10 rfl rfl)
theorem dX1_forceBy_83 : decode cX1_forceBy 83 = .ok (.ireturn, 1) := dk_172 (dk_at dksX1_forceBy_3 13 rfl rfl)
abbrev cX1_book : ByteArray := prog_1_method_21_code
def yX1_book : MethodName := ⟨RX1, "book", "(I)I"⟩
def dkwX1_book_4 : List UInt8 := [172, 58, 4, 42, 3, 181, 0, 158, 25, 4, 191]
abbrev dktX1_book_4 : List UInt8 := dkwX1_book_4 ++ []
def dkwX1_book_3 : List UInt8 := [180, 0, 106, 62, 42, 3, 181, 0, 158, 29, 172, 77, 42, 44, 182, 0, 185, 62, 42, 3, 181, 0, 158, 29]
abbrev dktX1_book_3 : List UInt8 := dkwX1_book_3 ++ dktX1_book_4
def dkwX1_book_2 : List UInt8 := [182, 0, 223, 3, 42, 180, 0, 38, 3, 16, 61, 184, 0, 226, 42, 44, 180, 0, 232, 181, 0, 106, 42]
abbrev dktX1_book_2 : List UInt8 := dkwX1_book_2 ++ dktX1_book_3
def dkwX1_book_1 : List UInt8 := [182, 0, 172, 42, 2, 181, 0, 69, 187, 0, 220, 89, 42, 180, 0, 73, 27, 183, 0, 222, 77, 44]
abbrev dktX1_book_1 : List UInt8 := dkwX1_book_1 ++ dktX1_book_2
def dkwX1_book_0 : List UInt8 := [42, 27, 155, 0, 21, 27, 42, 180, 0, 158, 163, 0, 13, 27, 16, 60, 163, 0, 7, 4, 167, 0, 4, 3]
abbrev dktX1_book_0 : List UInt8 := dkwX1_book_0 ++ dktX1_book_1
theorem dksX1_book_0 : cX1_book.data.toList.drop 0 = dktX1_book_0 := by decide +kernel
theorem dksX1_book_1 : cX1_book.data.toList.drop 24 = dktX1_book_1 := dk_seg dksX1_book_0 24 rfl rfl
theorem dksX1_book_2 : cX1_book.data.toList.drop 46 = dktX1_book_2 := dk_seg dksX1_book_1 22 rfl rfl
theorem dksX1_book_3 : cX1_book.data.toList.drop 69 = dktX1_book_3 := dk_seg dksX1_book_2 23 rfl rfl
theorem dksX1_book_4 : cX1_book.data.toList.drop 93 = dktX1_book_4 := dk_seg dksX1_book_3 24 rfl rfl
theorem dX1_book_0 : decode cX1_book 0 = .ok (.aload_n 0, 1) := dk_42 (dk_at dksX1_book_0 0 rfl rfl)
theorem dX1_book_1 : decode cX1_book 1 = .ok (.iload_n 1, 1) := dk_27 (dk_at dksX1_book_0 1 rfl rfl)
theorem dX1_book_2 : decode cX1_book 2 = .ok (.ifCond .lt 21, 3) := dk_155 0 21 (dk_at dksX1_book_0 2 rfl rfl)
theorem dX1_book_5 : decode cX1_book 5 = .ok (.iload_n 1, 1) := dk_27 (dk_at dksX1_book_0 5 rfl rfl)
theorem dX1_book_6 : decode cX1_book 6 = .ok (.aload_n 0, 1) := dk_42 (dk_at dksX1_book_0 6 rfl rfl)
theorem dX1_book_7 : decode cX1_book 7 = .ok (.getfield 158, 3) := dk_180 0 158 (dk_at dksX1_book_0 7 rfl rfl)
theorem dX1_book_10 : decode cX1_book 10 = .ok (.if_icmp .gt 13, 3) := dk_163 0 13 (dk_at dksX1_book_0 10 rfl rfl)
theorem dX1_book_13 : decode cX1_book 13 = .ok (.iload_n 1, 1) := dk_27 (dk_at dksX1_book_0 13 rfl rfl)
theorem dX1_book_14 : decode cX1_book 14 = .ok (.bipush 60, 2) := dk_16 60 (dk_at dksX1_book_0 14 rfl rfl)
theorem dX1_book_16 : decode cX1_book 16 = .ok (.if_icmp .gt 7, 3) := dk_163 0 7 (dk_at dksX1_book_0 16 rfl rfl)
theorem dX1_book_19 : decode cX1_book 19 = .ok (.iconst 1, 1) := dk_4 (dk_at dksX1_book_0 19 rfl rfl)
theorem dX1_book_20 : decode cX1_book 20 = .ok (.goto 4, 3) := dk_167 0 4 (dk_at dksX1_book_0 20 rfl rfl)
theorem dX1_book_23 : decode cX1_book 23 = .ok (.iconst 0, 1) := dk_3 (dk_at dksX1_book_0 23 rfl rfl)
theorem dX1_book_24 : decode cX1_book 24 = .ok (.invokevirtual 172, 3) := dk_182 0 172 (dk_at dksX1_book_1 0 rfl rfl)
theorem dX1_book_27 : decode cX1_book 27 = .ok (.aload_n 0, 1) := dk_42 (dk_at dksX1_book_1 3 rfl rfl)
theorem dX1_book_28 : decode cX1_book 28 = .ok (.iconst (-1), 1) := dk_2 (dk_at dksX1_book_1 4 rfl rfl)
theorem dX1_book_29 : decode cX1_book 29 = .ok (.putfield 69, 3) := dk_181 0 69 (dk_at dksX1_book_1 5 rfl rfl)
theorem dX1_book_32 : decode cX1_book 32 = .ok (.new 220, 3) := dk_187 0 220 (dk_at dksX1_book_1 8 rfl rfl)
theorem dX1_book_35 : decode cX1_book 35 = .ok (.dup, 1) := dk_89 (dk_at dksX1_book_1 11 rfl rfl)
theorem dX1_book_36 : decode cX1_book 36 = .ok (.aload_n 0, 1) := dk_42 (dk_at dksX1_book_1 12 rfl rfl)
theorem dX1_book_37 : decode cX1_book 37 = .ok (.getfield 73, 3) := dk_180 0 73 (dk_at dksX1_book_1 13 rfl rfl)
theorem dX1_book_40 : decode cX1_book 40 = .ok (.iload_n 1, 1) := dk_27 (dk_at dksX1_book_1 16 rfl rfl)
theorem dX1_book_41 : decode cX1_book 41 = .ok (.invokespecial 222, 3) := dk_183 0 222 (dk_at dksX1_book_1 17 rfl rfl)
theorem dX1_book_44 : decode cX1_book 44 = .ok (.astore_n 2, 1) := dk_77 (dk_at dksX1_book_1 20 rfl rfl)
theorem dX1_book_45 : decode cX1_book 45 = .ok (.aload_n 2, 1) := dk_44 (dk_at dksX1_book_1 21 rfl rfl)
theorem dX1_book_46 : decode cX1_book 46 = .ok (.invokevirtual 223, 3) := dk_182 0 223 (dk_at dksX1_book_2 0 rfl rfl)
theorem dX1_book_49 : decode cX1_book 49 = .ok (.iconst 0, 1) := dk_3 (dk_at dksX1_book_2 3 rfl rfl)
theorem dX1_book_50 : decode cX1_book 50 = .ok (.aload_n 0, 1) := dk_42 (dk_at dksX1_book_2 4 rfl rfl)
theorem dX1_book_51 : decode cX1_book 51 = .ok (.getfield 38, 3) := dk_180 0 38 (dk_at dksX1_book_2 5 rfl rfl)
theorem dX1_book_54 : decode cX1_book 54 = .ok (.iconst 0, 1) := dk_3 (dk_at dksX1_book_2 8 rfl rfl)
theorem dX1_book_55 : decode cX1_book 55 = .ok (.bipush 61, 2) := dk_16 61 (dk_at dksX1_book_2 9 rfl rfl)
theorem dX1_book_57 : decode cX1_book 57 = .ok (.invokestatic 226, 3) := dk_184 0 226 (dk_at dksX1_book_2 11 rfl rfl)
theorem dX1_book_60 : decode cX1_book 60 = .ok (.aload_n 0, 1) := dk_42 (dk_at dksX1_book_2 14 rfl rfl)
theorem dX1_book_61 : decode cX1_book 61 = .ok (.aload_n 2, 1) := dk_44 (dk_at dksX1_book_2 15 rfl rfl)
theorem dX1_book_62 : decode cX1_book 62 = .ok (.getfield 232, 3) := dk_180 0 232 (dk_at dksX1_book_2 16 rfl rfl)
theorem dX1_book_65 : decode cX1_book 65 = .ok (.putfield 106, 3) := dk_181 0 106 (dk_at dksX1_book_2 19 rfl rfl)
theorem dX1_book_68 : decode cX1_book 68 = .ok (.aload_n 0, 1) := dk_42 (dk_at dksX1_book_2 22 rfl rfl)
theorem dX1_book_69 : decode cX1_book 69 = .ok (.getfield 106, 3) := dk_180 0 106 (dk_at dksX1_book_3 0 rfl rfl)
theorem dX1_book_72 : decode cX1_book 72 = .ok (.istore_n 3, 1) := dk_62 (dk_at dksX1_book_3 3 rfl rfl)
theorem dX1_book_73 : decode cX1_book 73 = .ok (.aload_n 0, 1) := dk_42 (dk_at dksX1_book_3 4 rfl rfl)
theorem dX1_book_74 : decode cX1_book 74 = .ok (.iconst 0, 1) := dk_3 (dk_at dksX1_book_3 5 rfl rfl)
theorem dX1_book_75 : decode cX1_book 75 = .ok (.putfield 158, 3) := dk_181 0 158 (dk_at dksX1_book_3 6 rfl rfl)
theorem dX1_book_78 : decode cX1_book 78 = .ok (.iload_n 3, 1) := dk_29 (dk_at dksX1_book_3 9 rfl rfl)
theorem dX1_book_79 : decode cX1_book 79 = .ok (.ireturn, 1) := dk_172 (dk_at dksX1_book_3 10 rfl rfl)
theorem dX1_book_80 : decode cX1_book 80 = .ok (.astore_n 2, 1) := dk_77 (dk_at dksX1_book_3 11 rfl rfl)
theorem dX1_book_81 : decode cX1_book 81 = .ok (.aload_n 0, 1) := dk_42 (dk_at dksX1_book_3 12 rfl rfl)
theorem dX1_book_82 : decode cX1_book 82 = .ok (.aload_n 2, 1) := dk_44 (dk_at dksX1_book_3 13 rfl rfl)
theorem dX1_book_83 : decode cX1_book 83 = .ok (.invokevirtual 185, 3) := dk_182 0 185 (dk_at dksX1_book_3 14 rfl rfl)
theorem dX1_book_86 : decode cX1_book 86 = .ok (.istore_n 3, 1) := dk_62 (dk_at dksX1_book_3 17 rfl rfl)
theorem dX1_book_87 : decode cX1_book 87 = .ok (.aload_n 0, 1) := dk_42 (dk_at dksX1_book_3 18 rfl rfl)
theorem dX1_book_88 : decode cX1_book 88 = .ok (.iconst 0, 1) := dk_3 (dk_at dksX1_book_3 19 rfl rfl)
theorem dX1_book_89 : decode cX1_book 89 = .ok (.putfield 158, 3) := dk_181 0 158 (dk_at dksX1_book_3 20 rfl rfl)
theorem dX1_book_92 : decode cX1_book 92 = .ok (.iload_n 3, 1) := dk_29 (dk_at dksX1_book_3 23 rfl rfl)
theorem dX1_book_93 : decode cX1_book 93 = .ok (.ireturn, 1) := dk_172 (dk_at dksX1_book_4 0 rfl rfl)
theorem dX1_book_94 : decode cX1_book 94 = .ok (.astore 4, 2) := dk_58 4 (dk_at dksX1_book_4 1 rfl rfl)
theorem dX1_book_96 : decode cX1_book 96 = .ok (.aload_n 0, 1) := dk_42 (dk_at dksX1_book_4 3 rfl rfl)
theorem dX1_book_97 : decode cX1_book 97 = .ok (.iconst 0, 1) := dk_3 (dk_at dksX1_book_4 4 rfl rfl)
theorem dX1_book_98 : decode cX1_book 98 = .ok (.putfield 158, 3) := dk_181 0 158 (dk_at dksX1_book_4 5 rfl rfl)
theorem dX1_book_101 : decode cX1_book 101 = .ok (.aload 4, 2) := dk_25 4 (dk_at dksX1_book_4 8 rfl rfl)
theorem dX1_book_103 : decode cX1_book 103 = .ok (.athrow, 1) := dk_191 (dk_at dksX1_book_4 10 rfl rfl)
abbrev cX1_told : ByteArray := prog_1_method_26_code
def yX1_told : MethodName := ⟨RX1, "told", "(I)I"⟩
def dkwX1_told_5 : List UInt8 := [180, 0, 103, 172, 42, 180, 0, 49, 182, 1, 15, 172]
abbrev dktX1_told_5 : List UInt8 := dkwX1_told_5 ++ []
def dkwX1_told_4 : List UInt8 := [42, 180, 0, 22, 180, 1, 6, 182, 1, 9, 172, 42, 182, 1, 12, 172, 42, 180, 0, 106, 172, 42]
abbrev dktX1_told_4 : List UInt8 := dkwX1_told_4 ++ dktX1_told_5
def dkwX1_told_3 : List UInt8 := [180, 0, 49, 180, 0, 253, 172, 42, 180, 0, 49, 180, 1, 0, 172, 42, 182, 1, 3, 172, 42, 180, 0, 49]
abbrev dktX1_told_3 : List UInt8 := dkwX1_told_3 ++ dktX1_told_4
def dkwX1_told_2 : List UInt8 := [42, 180, 0, 22, 180, 0, 149, 172, 42, 180, 0, 22, 180, 0, 250, 172, 42, 182, 0, 156, 172, 42]
abbrev dktX1_told_2 : List UInt8 := dkwX1_told_2 ++ dktX1_told_3
def dkwX1_told_1 : List UInt8 := [170, 0, 0, 0, 0, 0, 0, 128, 0, 0, 0, 0, 0, 0, 0, 9, 0, 0, 0, 56, 0, 0, 0, 64, 0, 0, 0, 72, 0, 0, 0, 77, 0, 0, 0, 85, 0, 0, 0, 93, 0, 0, 0, 98, 0, 0, 0, 113, 0, 0, 0, 118, 0, 0, 0, 123]
abbrev dktX1_told_1 : List UInt8 := dkwX1_told_1 ++ dktX1_told_2
def dkwX1_told_0 : List UInt8 := [42, 27, 3, 16, 10, 184, 0, 246, 182, 0, 172, 27]
abbrev dktX1_told_0 : List UInt8 := dkwX1_told_0 ++ dktX1_told_1
theorem dksX1_told_0 : cX1_told.data.toList.drop 0 = dktX1_told_0 := by decide +kernel
theorem dksX1_told_1 : cX1_told.data.toList.drop 12 = dktX1_told_1 := dk_seg dksX1_told_0 12 rfl rfl
theorem dksX1_told_2 : cX1_told.data.toList.drop 68 = dktX1_told_2 := dk_seg dksX1_told_1 56 rfl rfl
theorem dksX1_told_3 : cX1_told.data.toList.drop 90 = dktX1_told_3 := dk_seg dksX1_told_2 22 rfl rfl
theorem dksX1_told_4 : cX1_told.data.toList.drop 114 = dktX1_told_4 := dk_seg dksX1_told_3 24 rfl rfl
theorem dksX1_told_5 : cX1_told.data.toList.drop 136 = dktX1_told_5 := dk_seg dksX1_told_4 22 rfl rfl
theorem dX1_told_0 : decode cX1_told 0 = .ok (.aload_n 0, 1) := dk_42 (dk_at dksX1_told_0 0 rfl rfl)
theorem dX1_told_1 : decode cX1_told 1 = .ok (.iload_n 1, 1) := dk_27 (dk_at dksX1_told_0 1 rfl rfl)
theorem dX1_told_2 : decode cX1_told 2 = .ok (.iconst 0, 1) := dk_3 (dk_at dksX1_told_0 2 rfl rfl)
theorem dX1_told_3 : decode cX1_told 3 = .ok (.bipush 10, 2) := dk_16 10 (dk_at dksX1_told_0 3 rfl rfl)
theorem dX1_told_5 : decode cX1_told 5 = .ok (.invokestatic 246, 3) := dk_184 0 246 (dk_at dksX1_told_0 5 rfl rfl)
theorem dX1_told_8 : decode cX1_told 8 = .ok (.invokevirtual 172, 3) := dk_182 0 172 (dk_at dksX1_told_0 8 rfl rfl)
theorem dX1_told_11 : decode cX1_told 11 = .ok (.iload_n 1, 1) := dk_27 (dk_at dksX1_told_0 11 rfl rfl)
theorem dX1_told_12 : decode cX1_told 12 = .ok (.tableswitch 128 0 9 #[56, 64, 72, 77, 85, 93, 98, 113, 118, 123], 56) := by decide +kernel
theorem dX1_told_68 : decode cX1_told 68 = .ok (.aload_n 0, 1) := dk_42 (dk_at dksX1_told_2 0 rfl rfl)
theorem dX1_told_69 : decode cX1_told 69 = .ok (.getfield 22, 3) := dk_180 0 22 (dk_at dksX1_told_2 1 rfl rfl)
theorem dX1_told_72 : decode cX1_told 72 = .ok (.getfield 149, 3) := dk_180 0 149 (dk_at dksX1_told_2 4 rfl rfl)
theorem dX1_told_75 : decode cX1_told 75 = .ok (.ireturn, 1) := dk_172 (dk_at dksX1_told_2 7 rfl rfl)
theorem dX1_told_76 : decode cX1_told 76 = .ok (.aload_n 0, 1) := dk_42 (dk_at dksX1_told_2 8 rfl rfl)
theorem dX1_told_77 : decode cX1_told 77 = .ok (.getfield 22, 3) := dk_180 0 22 (dk_at dksX1_told_2 9 rfl rfl)
theorem dX1_told_80 : decode cX1_told 80 = .ok (.getfield 250, 3) := dk_180 0 250 (dk_at dksX1_told_2 12 rfl rfl)
theorem dX1_told_83 : decode cX1_told 83 = .ok (.ireturn, 1) := dk_172 (dk_at dksX1_told_2 15 rfl rfl)
theorem dX1_told_84 : decode cX1_told 84 = .ok (.aload_n 0, 1) := dk_42 (dk_at dksX1_told_2 16 rfl rfl)
theorem dX1_told_85 : decode cX1_told 85 = .ok (.invokevirtual 156, 3) := dk_182 0 156 (dk_at dksX1_told_2 17 rfl rfl)
theorem dX1_told_88 : decode cX1_told 88 = .ok (.ireturn, 1) := dk_172 (dk_at dksX1_told_2 20 rfl rfl)
theorem dX1_told_89 : decode cX1_told 89 = .ok (.aload_n 0, 1) := dk_42 (dk_at dksX1_told_2 21 rfl rfl)
theorem dX1_told_90 : decode cX1_told 90 = .ok (.getfield 49, 3) := dk_180 0 49 (dk_at dksX1_told_3 0 rfl rfl)
theorem dX1_told_93 : decode cX1_told 93 = .ok (.getfield 253, 3) := dk_180 0 253 (dk_at dksX1_told_3 3 rfl rfl)
theorem dX1_told_96 : decode cX1_told 96 = .ok (.ireturn, 1) := dk_172 (dk_at dksX1_told_3 6 rfl rfl)
theorem dX1_told_97 : decode cX1_told 97 = .ok (.aload_n 0, 1) := dk_42 (dk_at dksX1_told_3 7 rfl rfl)
theorem dX1_told_98 : decode cX1_told 98 = .ok (.getfield 49, 3) := dk_180 0 49 (dk_at dksX1_told_3 8 rfl rfl)
theorem dX1_told_101 : decode cX1_told 101 = .ok (.getfield 256, 3) := dk_180 1 0 (dk_at dksX1_told_3 11 rfl rfl)
theorem dX1_told_104 : decode cX1_told 104 = .ok (.ireturn, 1) := dk_172 (dk_at dksX1_told_3 14 rfl rfl)
theorem dX1_told_105 : decode cX1_told 105 = .ok (.aload_n 0, 1) := dk_42 (dk_at dksX1_told_3 15 rfl rfl)
theorem dX1_told_106 : decode cX1_told 106 = .ok (.invokevirtual 259, 3) := dk_182 1 3 (dk_at dksX1_told_3 16 rfl rfl)
theorem dX1_told_109 : decode cX1_told 109 = .ok (.ireturn, 1) := dk_172 (dk_at dksX1_told_3 19 rfl rfl)
theorem dX1_told_110 : decode cX1_told 110 = .ok (.aload_n 0, 1) := dk_42 (dk_at dksX1_told_3 20 rfl rfl)
theorem dX1_told_111 : decode cX1_told 111 = .ok (.getfield 49, 3) := dk_180 0 49 (dk_at dksX1_told_3 21 rfl rfl)
theorem dX1_told_114 : decode cX1_told 114 = .ok (.aload_n 0, 1) := dk_42 (dk_at dksX1_told_4 0 rfl rfl)
theorem dX1_told_115 : decode cX1_told 115 = .ok (.getfield 22, 3) := dk_180 0 22 (dk_at dksX1_told_4 1 rfl rfl)
theorem dX1_told_118 : decode cX1_told 118 = .ok (.getfield 262, 3) := dk_180 1 6 (dk_at dksX1_told_4 4 rfl rfl)
theorem dX1_told_121 : decode cX1_told 121 = .ok (.invokevirtual 265, 3) := dk_182 1 9 (dk_at dksX1_told_4 7 rfl rfl)
theorem dX1_told_124 : decode cX1_told 124 = .ok (.ireturn, 1) := dk_172 (dk_at dksX1_told_4 10 rfl rfl)
theorem dX1_told_125 : decode cX1_told 125 = .ok (.aload_n 0, 1) := dk_42 (dk_at dksX1_told_4 11 rfl rfl)
theorem dX1_told_126 : decode cX1_told 126 = .ok (.invokevirtual 268, 3) := dk_182 1 12 (dk_at dksX1_told_4 12 rfl rfl)
theorem dX1_told_129 : decode cX1_told 129 = .ok (.ireturn, 1) := dk_172 (dk_at dksX1_told_4 15 rfl rfl)
theorem dX1_told_130 : decode cX1_told 130 = .ok (.aload_n 0, 1) := dk_42 (dk_at dksX1_told_4 16 rfl rfl)
theorem dX1_told_131 : decode cX1_told 131 = .ok (.getfield 106, 3) := dk_180 0 106 (dk_at dksX1_told_4 17 rfl rfl)
theorem dX1_told_134 : decode cX1_told 134 = .ok (.ireturn, 1) := dk_172 (dk_at dksX1_told_4 20 rfl rfl)
theorem dX1_told_135 : decode cX1_told 135 = .ok (.aload_n 0, 1) := dk_42 (dk_at dksX1_told_4 21 rfl rfl)
theorem dX1_told_136 : decode cX1_told 136 = .ok (.getfield 103, 3) := dk_180 0 103 (dk_at dksX1_told_5 0 rfl rfl)
theorem dX1_told_139 : decode cX1_told 139 = .ok (.ireturn, 1) := dk_172 (dk_at dksX1_told_5 3 rfl rfl)
theorem dX1_told_140 : decode cX1_told 140 = .ok (.aload_n 0, 1) := dk_42 (dk_at dksX1_told_5 4 rfl rfl)
theorem dX1_told_141 : decode cX1_told 141 = .ok (.getfield 49, 3) := dk_180 0 49 (dk_at dksX1_told_5 5 rfl rfl)
theorem dX1_told_144 : decode cX1_told 144 = .ok (.invokevirtual 271, 3) := dk_182 1 15 (dk_at dksX1_told_5 8 rfl rfl)
theorem dX1_told_147 : decode cX1_told 147 = .ok (.ireturn, 1) := dk_172 (dk_at dksX1_told_5 11 rfl rfl)
abbrev cX1_isIn : ByteArray := prog_1_method_12_code
def yX1_isIn : MethodName := ⟨RX1, "isIn", "(III)Z"⟩
def dkwX1_isIn_0 : List UInt8 := [26, 27, 161, 0, 12, 26, 28, 163, 0, 7, 4, 167, 0, 4, 3, 172]
abbrev dktX1_isIn_0 : List UInt8 := dkwX1_isIn_0 ++ []
theorem dksX1_isIn_0 : cX1_isIn.data.toList.drop 0 = dktX1_isIn_0 := by decide +kernel
theorem dX1_isIn_0 : decode cX1_isIn 0 = .ok (.iload_n 0, 1) := dk_26 (dk_at dksX1_isIn_0 0 rfl rfl)
theorem dX1_isIn_1 : decode cX1_isIn 1 = .ok (.iload_n 1, 1) := dk_27 (dk_at dksX1_isIn_0 1 rfl rfl)
theorem dX1_isIn_2 : decode cX1_isIn 2 = .ok (.if_icmp .lt 12, 3) := dk_161 0 12 (dk_at dksX1_isIn_0 2 rfl rfl)
theorem dX1_isIn_5 : decode cX1_isIn 5 = .ok (.iload_n 0, 1) := dk_26 (dk_at dksX1_isIn_0 5 rfl rfl)
theorem dX1_isIn_6 : decode cX1_isIn 6 = .ok (.iload_n 2, 1) := dk_28 (dk_at dksX1_isIn_0 6 rfl rfl)
theorem dX1_isIn_7 : decode cX1_isIn 7 = .ok (.if_icmp .gt 7, 3) := dk_163 0 7 (dk_at dksX1_isIn_0 7 rfl rfl)
theorem dX1_isIn_10 : decode cX1_isIn 10 = .ok (.iconst 1, 1) := dk_4 (dk_at dksX1_isIn_0 10 rfl rfl)
theorem dX1_isIn_11 : decode cX1_isIn 11 = .ok (.goto 4, 3) := dk_167 0 4 (dk_at dksX1_isIn_0 11 rfl rfl)
theorem dX1_isIn_14 : decode cX1_isIn 14 = .ok (.iconst 0, 1) := dk_3 (dk_at dksX1_isIn_0 14 rfl rfl)
theorem dX1_isIn_15 : decode cX1_isIn 15 = .ok (.ireturn, 1) := dk_172 (dk_at dksX1_isIn_0 15 rfl rfl)
abbrev cX1_standing : ByteArray := prog_1_method_24_code
def yX1_standing : MethodName := ⟨RX1, "standing", "()I"⟩
def dkwX1_standing_1 : List UInt8 := [160, 0, 7, 3, 167, 0, 6, 4, 28, 120, 128, 60, 132, 2, 1, 167, 255, 222, 27, 172]
abbrev dktX1_standing_1 : List UInt8 := dkwX1_standing_1 ++ []
def dkwX1_standing_0 : List UInt8 := [3, 60, 3, 61, 28, 42, 182, 0, 156, 162, 0, 32, 27, 42, 180, 0, 49, 180, 0, 239, 28, 46, 2]
abbrev dktX1_standing_0 : List UInt8 := dkwX1_standing_0 ++ dktX1_standing_1
theorem dksX1_standing_0 : cX1_standing.data.toList.drop 0 = dktX1_standing_0 := by decide +kernel
theorem dksX1_standing_1 : cX1_standing.data.toList.drop 23 = dktX1_standing_1 := dk_seg dksX1_standing_0 23 rfl rfl
theorem dX1_standing_0 : decode cX1_standing 0 = .ok (.iconst 0, 1) := dk_3 (dk_at dksX1_standing_0 0 rfl rfl)
theorem dX1_standing_1 : decode cX1_standing 1 = .ok (.istore_n 1, 1) := dk_60 (dk_at dksX1_standing_0 1 rfl rfl)
theorem dX1_standing_2 : decode cX1_standing 2 = .ok (.iconst 0, 1) := dk_3 (dk_at dksX1_standing_0 2 rfl rfl)
theorem dX1_standing_3 : decode cX1_standing 3 = .ok (.istore_n 2, 1) := dk_61 (dk_at dksX1_standing_0 3 rfl rfl)
theorem dX1_standing_4 : decode cX1_standing 4 = .ok (.iload_n 2, 1) := dk_28 (dk_at dksX1_standing_0 4 rfl rfl)
theorem dX1_standing_5 : decode cX1_standing 5 = .ok (.aload_n 0, 1) := dk_42 (dk_at dksX1_standing_0 5 rfl rfl)
theorem dX1_standing_6 : decode cX1_standing 6 = .ok (.invokevirtual 156, 3) := dk_182 0 156 (dk_at dksX1_standing_0 6 rfl rfl)
theorem dX1_standing_9 : decode cX1_standing 9 = .ok (.if_icmp .ge 32, 3) := dk_162 0 32 (dk_at dksX1_standing_0 9 rfl rfl)
theorem dX1_standing_12 : decode cX1_standing 12 = .ok (.iload_n 1, 1) := dk_27 (dk_at dksX1_standing_0 12 rfl rfl)
theorem dX1_standing_13 : decode cX1_standing 13 = .ok (.aload_n 0, 1) := dk_42 (dk_at dksX1_standing_0 13 rfl rfl)
theorem dX1_standing_14 : decode cX1_standing 14 = .ok (.getfield 49, 3) := dk_180 0 49 (dk_at dksX1_standing_0 14 rfl rfl)
theorem dX1_standing_17 : decode cX1_standing 17 = .ok (.getfield 239, 3) := dk_180 0 239 (dk_at dksX1_standing_0 17 rfl rfl)
theorem dX1_standing_20 : decode cX1_standing 20 = .ok (.iload_n 2, 1) := dk_28 (dk_at dksX1_standing_0 20 rfl rfl)
theorem dX1_standing_21 : decode cX1_standing 21 = .ok (.iaload, 1) := dk_46 (dk_at dksX1_standing_0 21 rfl rfl)
theorem dX1_standing_22 : decode cX1_standing 22 = .ok (.iconst (-1), 1) := dk_2 (dk_at dksX1_standing_0 22 rfl rfl)
theorem dX1_standing_23 : decode cX1_standing 23 = .ok (.if_icmp .ne 7, 3) := dk_160 0 7 (dk_at dksX1_standing_1 0 rfl rfl)
theorem dX1_standing_26 : decode cX1_standing 26 = .ok (.iconst 0, 1) := dk_3 (dk_at dksX1_standing_1 3 rfl rfl)
theorem dX1_standing_27 : decode cX1_standing 27 = .ok (.goto 6, 3) := dk_167 0 6 (dk_at dksX1_standing_1 4 rfl rfl)
theorem dX1_standing_30 : decode cX1_standing 30 = .ok (.iconst 1, 1) := dk_4 (dk_at dksX1_standing_1 7 rfl rfl)
theorem dX1_standing_31 : decode cX1_standing 31 = .ok (.iload_n 2, 1) := dk_28 (dk_at dksX1_standing_1 8 rfl rfl)
theorem dX1_standing_32 : decode cX1_standing 32 = .ok (.ishl, 1) := dk_120 (dk_at dksX1_standing_1 9 rfl rfl)
theorem dX1_standing_33 : decode cX1_standing 33 = .ok (.ior, 1) := dk_128 (dk_at dksX1_standing_1 10 rfl rfl)
theorem dX1_standing_34 : decode cX1_standing 34 = .ok (.istore_n 1, 1) := dk_60 (dk_at dksX1_standing_1 11 rfl rfl)
theorem dX1_standing_35 : decode cX1_standing 35 = .ok (.iinc 2 1, 3) := dk_132 2 1 (dk_at dksX1_standing_1 12 rfl rfl)
theorem dX1_standing_38 : decode cX1_standing 38 = .ok (.goto (-34), 3) := dk_167 255 222 (dk_at dksX1_standing_1 15 rfl rfl)
theorem dX1_standing_41 : decode cX1_standing 41 = .ok (.iload_n 1, 1) := dk_27 (dk_at dksX1_standing_1 18 rfl rfl)
theorem dX1_standing_42 : decode cX1_standing 42 = .ok (.ireturn, 1) := dk_172 (dk_at dksX1_standing_1 19 rfl rfl)
abbrev cX1_fighting : ByteArray := prog_1_method_25_code
def yX1_fighting : MethodName := ⟨RX1, "fighting", "()I"⟩
def dkwX1_fighting_1 : List UInt8 := [3, 167, 0, 6, 4, 28, 120, 128, 60, 132, 2, 1, 167, 255, 224, 27, 172]
abbrev dktX1_fighting_1 : List UInt8 := dkwX1_fighting_1 ++ []
def dkwX1_fighting_0 : List UInt8 := [3, 60, 3, 61, 28, 42, 182, 0, 156, 162, 0, 30, 27, 42, 180, 0, 49, 28, 182, 0, 242, 154, 0, 7]
abbrev dktX1_fighting_0 : List UInt8 := dkwX1_fighting_0 ++ dktX1_fighting_1
theorem dksX1_fighting_0 : cX1_fighting.data.toList.drop 0 = dktX1_fighting_0 := by decide +kernel
theorem dksX1_fighting_1 : cX1_fighting.data.toList.drop 24 = dktX1_fighting_1 := dk_seg dksX1_fighting_0 24 rfl rfl
theorem dX1_fighting_0 : decode cX1_fighting 0 = .ok (.iconst 0, 1) := dk_3 (dk_at dksX1_fighting_0 0 rfl rfl)
theorem dX1_fighting_1 : decode cX1_fighting 1 = .ok (.istore_n 1, 1) := dk_60 (dk_at dksX1_fighting_0 1 rfl rfl)
theorem dX1_fighting_2 : decode cX1_fighting 2 = .ok (.iconst 0, 1) := dk_3 (dk_at dksX1_fighting_0 2 rfl rfl)
theorem dX1_fighting_3 : decode cX1_fighting 3 = .ok (.istore_n 2, 1) := dk_61 (dk_at dksX1_fighting_0 3 rfl rfl)
theorem dX1_fighting_4 : decode cX1_fighting 4 = .ok (.iload_n 2, 1) := dk_28 (dk_at dksX1_fighting_0 4 rfl rfl)
theorem dX1_fighting_5 : decode cX1_fighting 5 = .ok (.aload_n 0, 1) := dk_42 (dk_at dksX1_fighting_0 5 rfl rfl)
theorem dX1_fighting_6 : decode cX1_fighting 6 = .ok (.invokevirtual 156, 3) := dk_182 0 156 (dk_at dksX1_fighting_0 6 rfl rfl)
theorem dX1_fighting_9 : decode cX1_fighting 9 = .ok (.if_icmp .ge 30, 3) := dk_162 0 30 (dk_at dksX1_fighting_0 9 rfl rfl)
theorem dX1_fighting_12 : decode cX1_fighting 12 = .ok (.iload_n 1, 1) := dk_27 (dk_at dksX1_fighting_0 12 rfl rfl)
theorem dX1_fighting_13 : decode cX1_fighting 13 = .ok (.aload_n 0, 1) := dk_42 (dk_at dksX1_fighting_0 13 rfl rfl)
theorem dX1_fighting_14 : decode cX1_fighting 14 = .ok (.getfield 49, 3) := dk_180 0 49 (dk_at dksX1_fighting_0 14 rfl rfl)
theorem dX1_fighting_17 : decode cX1_fighting 17 = .ok (.iload_n 2, 1) := dk_28 (dk_at dksX1_fighting_0 17 rfl rfl)
theorem dX1_fighting_18 : decode cX1_fighting 18 = .ok (.invokevirtual 242, 3) := dk_182 0 242 (dk_at dksX1_fighting_0 18 rfl rfl)
theorem dX1_fighting_21 : decode cX1_fighting 21 = .ok (.ifCond .ne 7, 3) := dk_154 0 7 (dk_at dksX1_fighting_0 21 rfl rfl)
theorem dX1_fighting_24 : decode cX1_fighting 24 = .ok (.iconst 0, 1) := dk_3 (dk_at dksX1_fighting_1 0 rfl rfl)
theorem dX1_fighting_25 : decode cX1_fighting 25 = .ok (.goto 6, 3) := dk_167 0 6 (dk_at dksX1_fighting_1 1 rfl rfl)
theorem dX1_fighting_28 : decode cX1_fighting 28 = .ok (.iconst 1, 1) := dk_4 (dk_at dksX1_fighting_1 4 rfl rfl)
theorem dX1_fighting_29 : decode cX1_fighting 29 = .ok (.iload_n 2, 1) := dk_28 (dk_at dksX1_fighting_1 5 rfl rfl)
theorem dX1_fighting_30 : decode cX1_fighting 30 = .ok (.ishl, 1) := dk_120 (dk_at dksX1_fighting_1 6 rfl rfl)
theorem dX1_fighting_31 : decode cX1_fighting 31 = .ok (.ior, 1) := dk_128 (dk_at dksX1_fighting_1 7 rfl rfl)
theorem dX1_fighting_32 : decode cX1_fighting 32 = .ok (.istore_n 1, 1) := dk_60 (dk_at dksX1_fighting_1 8 rfl rfl)
theorem dX1_fighting_33 : decode cX1_fighting 33 = .ok (.iinc 2 1, 3) := dk_132 2 1 (dk_at dksX1_fighting_1 9 rfl rfl)
theorem dX1_fighting_36 : decode cX1_fighting 36 = .ok (.goto (-32), 3) := dk_167 255 224 (dk_at dksX1_fighting_1 12 rfl rfl)
theorem dX1_fighting_39 : decode cX1_fighting 39 = .ok (.iload_n 1, 1) := dk_27 (dk_at dksX1_fighting_1 15 rfl rfl)
theorem dX1_fighting_40 : decode cX1_fighting 40 = .ok (.ireturn, 1) := dk_172 (dk_at dksX1_fighting_1 16 rfl rfl)
abbrev cX1_house : ByteArray := prog_1_method_27_code
def yX1_house : MethodName := ⟨RX1, "house", "(II)I"⟩
def dkwX1_house_6 : List UInt8 := [172]
abbrev dktX1_house_6 : List UInt8 := dkwX1_house_6 ++ []
def dkwX1_house_5 : List UInt8 := [4, 167, 0, 4, 3, 96, 62, 132, 4, 1, 167, 255, 220, 29, 172, 42, 180, 0, 22, 180, 1, 33, 27, 46]
abbrev dktX1_house_5 : List UInt8 := dkwX1_house_5 ++ dktX1_house_6
def dkwX1_house_4 : List UInt8 := [16, 10, 162, 0, 35, 29, 42, 180, 0, 49, 180, 1, 30, 16, 10, 27, 104, 21, 4, 96, 46, 158, 0, 7]
abbrev dktX1_house_4 : List UInt8 := dkwX1_house_4 ++ dktX1_house_5
def dkwX1_house_3 : List UInt8 := [180, 1, 27, 27, 46, 172, 42, 180, 0, 22, 180, 1, 6, 27, 46, 172, 3, 62, 3, 54, 4, 21, 4]
abbrev dktX1_house_3 : List UInt8 := dkwX1_house_3 ++ dktX1_house_4
def dkwX1_house_2 : List UInt8 := [42, 180, 0, 49, 27, 182, 1, 21, 172, 42, 180, 0, 49, 27, 182, 1, 24, 172, 42, 180, 0, 22]
abbrev dktX1_house_2 : List UInt8 := dkwX1_house_2 ++ dktX1_house_3
def dkwX1_house_1 : List UInt8 := [170, 0, 0, 0, 0, 0, 0, 120, 0, 0, 0, 0, 0, 0, 0, 4, 0, 0, 0, 36, 0, 0, 0, 45, 0, 0, 0, 54, 0, 0, 0, 64, 0, 0, 0, 74]
abbrev dktX1_house_1 : List UInt8 := dkwX1_house_1 ++ dktX1_house_2
def dkwX1_house_0 : List UInt8 := [42, 27, 182, 1, 18, 42, 28, 3, 8, 184, 0, 246, 182, 0, 172, 28]
abbrev dktX1_house_0 : List UInt8 := dkwX1_house_0 ++ dktX1_house_1
theorem dksX1_house_0 : cX1_house.data.toList.drop 0 = dktX1_house_0 := by decide +kernel
theorem dksX1_house_1 : cX1_house.data.toList.drop 16 = dktX1_house_1 := dk_seg dksX1_house_0 16 rfl rfl
theorem dksX1_house_2 : cX1_house.data.toList.drop 52 = dktX1_house_2 := dk_seg dksX1_house_1 36 rfl rfl
theorem dksX1_house_3 : cX1_house.data.toList.drop 74 = dktX1_house_3 := dk_seg dksX1_house_2 22 rfl rfl
theorem dksX1_house_4 : cX1_house.data.toList.drop 97 = dktX1_house_4 := dk_seg dksX1_house_3 23 rfl rfl
theorem dksX1_house_5 : cX1_house.data.toList.drop 121 = dktX1_house_5 := dk_seg dksX1_house_4 24 rfl rfl
theorem dksX1_house_6 : cX1_house.data.toList.drop 145 = dktX1_house_6 := dk_seg dksX1_house_5 24 rfl rfl
theorem dX1_house_0 : decode cX1_house 0 = .ok (.aload_n 0, 1) := dk_42 (dk_at dksX1_house_0 0 rfl rfl)
theorem dX1_house_1 : decode cX1_house 1 = .ok (.iload_n 1, 1) := dk_27 (dk_at dksX1_house_0 1 rfl rfl)
theorem dX1_house_2 : decode cX1_house 2 = .ok (.invokevirtual 274, 3) := dk_182 1 18 (dk_at dksX1_house_0 2 rfl rfl)
theorem dX1_house_5 : decode cX1_house 5 = .ok (.aload_n 0, 1) := dk_42 (dk_at dksX1_house_0 5 rfl rfl)
theorem dX1_house_6 : decode cX1_house 6 = .ok (.iload_n 2, 1) := dk_28 (dk_at dksX1_house_0 6 rfl rfl)
theorem dX1_house_7 : decode cX1_house 7 = .ok (.iconst 0, 1) := dk_3 (dk_at dksX1_house_0 7 rfl rfl)
theorem dX1_house_8 : decode cX1_house 8 = .ok (.iconst 5, 1) := dk_8 (dk_at dksX1_house_0 8 rfl rfl)
theorem dX1_house_9 : decode cX1_house 9 = .ok (.invokestatic 246, 3) := dk_184 0 246 (dk_at dksX1_house_0 9 rfl rfl)
theorem dX1_house_12 : decode cX1_house 12 = .ok (.invokevirtual 172, 3) := dk_182 0 172 (dk_at dksX1_house_0 12 rfl rfl)
theorem dX1_house_15 : decode cX1_house 15 = .ok (.iload_n 2, 1) := dk_28 (dk_at dksX1_house_0 15 rfl rfl)
theorem dX1_house_16 : decode cX1_house 16 = .ok (.tableswitch 120 0 4 #[36, 45, 54, 64, 74], 36) := by decide +kernel
theorem dX1_house_52 : decode cX1_house 52 = .ok (.aload_n 0, 1) := dk_42 (dk_at dksX1_house_2 0 rfl rfl)
theorem dX1_house_53 : decode cX1_house 53 = .ok (.getfield 49, 3) := dk_180 0 49 (dk_at dksX1_house_2 1 rfl rfl)
theorem dX1_house_56 : decode cX1_house 56 = .ok (.iload_n 1, 1) := dk_27 (dk_at dksX1_house_2 4 rfl rfl)
theorem dX1_house_57 : decode cX1_house 57 = .ok (.invokevirtual 277, 3) := dk_182 1 21 (dk_at dksX1_house_2 5 rfl rfl)
theorem dX1_house_60 : decode cX1_house 60 = .ok (.ireturn, 1) := dk_172 (dk_at dksX1_house_2 8 rfl rfl)
theorem dX1_house_61 : decode cX1_house 61 = .ok (.aload_n 0, 1) := dk_42 (dk_at dksX1_house_2 9 rfl rfl)
theorem dX1_house_62 : decode cX1_house 62 = .ok (.getfield 49, 3) := dk_180 0 49 (dk_at dksX1_house_2 10 rfl rfl)
theorem dX1_house_65 : decode cX1_house 65 = .ok (.iload_n 1, 1) := dk_27 (dk_at dksX1_house_2 13 rfl rfl)
theorem dX1_house_66 : decode cX1_house 66 = .ok (.invokevirtual 280, 3) := dk_182 1 24 (dk_at dksX1_house_2 14 rfl rfl)
theorem dX1_house_69 : decode cX1_house 69 = .ok (.ireturn, 1) := dk_172 (dk_at dksX1_house_2 17 rfl rfl)
theorem dX1_house_70 : decode cX1_house 70 = .ok (.aload_n 0, 1) := dk_42 (dk_at dksX1_house_2 18 rfl rfl)
theorem dX1_house_71 : decode cX1_house 71 = .ok (.getfield 22, 3) := dk_180 0 22 (dk_at dksX1_house_2 19 rfl rfl)
theorem dX1_house_74 : decode cX1_house 74 = .ok (.getfield 283, 3) := dk_180 1 27 (dk_at dksX1_house_3 0 rfl rfl)
theorem dX1_house_77 : decode cX1_house 77 = .ok (.iload_n 1, 1) := dk_27 (dk_at dksX1_house_3 3 rfl rfl)
theorem dX1_house_78 : decode cX1_house 78 = .ok (.iaload, 1) := dk_46 (dk_at dksX1_house_3 4 rfl rfl)
theorem dX1_house_79 : decode cX1_house 79 = .ok (.ireturn, 1) := dk_172 (dk_at dksX1_house_3 5 rfl rfl)
theorem dX1_house_80 : decode cX1_house 80 = .ok (.aload_n 0, 1) := dk_42 (dk_at dksX1_house_3 6 rfl rfl)
theorem dX1_house_81 : decode cX1_house 81 = .ok (.getfield 22, 3) := dk_180 0 22 (dk_at dksX1_house_3 7 rfl rfl)
theorem dX1_house_84 : decode cX1_house 84 = .ok (.getfield 262, 3) := dk_180 1 6 (dk_at dksX1_house_3 10 rfl rfl)
theorem dX1_house_87 : decode cX1_house 87 = .ok (.iload_n 1, 1) := dk_27 (dk_at dksX1_house_3 13 rfl rfl)
theorem dX1_house_88 : decode cX1_house 88 = .ok (.iaload, 1) := dk_46 (dk_at dksX1_house_3 14 rfl rfl)
theorem dX1_house_89 : decode cX1_house 89 = .ok (.ireturn, 1) := dk_172 (dk_at dksX1_house_3 15 rfl rfl)
theorem dX1_house_90 : decode cX1_house 90 = .ok (.iconst 0, 1) := dk_3 (dk_at dksX1_house_3 16 rfl rfl)
theorem dX1_house_91 : decode cX1_house 91 = .ok (.istore_n 3, 1) := dk_62 (dk_at dksX1_house_3 17 rfl rfl)
theorem dX1_house_92 : decode cX1_house 92 = .ok (.iconst 0, 1) := dk_3 (dk_at dksX1_house_3 18 rfl rfl)
theorem dX1_house_93 : decode cX1_house 93 = .ok (.istore 4, 2) := dk_54 4 (dk_at dksX1_house_3 19 rfl rfl)
theorem dX1_house_95 : decode cX1_house 95 = .ok (.iload 4, 2) := dk_21 4 (dk_at dksX1_house_3 21 rfl rfl)
theorem dX1_house_97 : decode cX1_house 97 = .ok (.bipush 10, 2) := dk_16 10 (dk_at dksX1_house_4 0 rfl rfl)
theorem dX1_house_99 : decode cX1_house 99 = .ok (.if_icmp .ge 35, 3) := dk_162 0 35 (dk_at dksX1_house_4 2 rfl rfl)
theorem dX1_house_102 : decode cX1_house 102 = .ok (.iload_n 3, 1) := dk_29 (dk_at dksX1_house_4 5 rfl rfl)
theorem dX1_house_103 : decode cX1_house 103 = .ok (.aload_n 0, 1) := dk_42 (dk_at dksX1_house_4 6 rfl rfl)
theorem dX1_house_104 : decode cX1_house 104 = .ok (.getfield 49, 3) := dk_180 0 49 (dk_at dksX1_house_4 7 rfl rfl)
theorem dX1_house_107 : decode cX1_house 107 = .ok (.getfield 286, 3) := dk_180 1 30 (dk_at dksX1_house_4 10 rfl rfl)
theorem dX1_house_110 : decode cX1_house 110 = .ok (.bipush 10, 2) := dk_16 10 (dk_at dksX1_house_4 13 rfl rfl)
theorem dX1_house_112 : decode cX1_house 112 = .ok (.iload_n 1, 1) := dk_27 (dk_at dksX1_house_4 15 rfl rfl)
theorem dX1_house_113 : decode cX1_house 113 = .ok (.imul, 1) := dk_104 (dk_at dksX1_house_4 16 rfl rfl)
theorem dX1_house_114 : decode cX1_house 114 = .ok (.iload 4, 2) := dk_21 4 (dk_at dksX1_house_4 17 rfl rfl)
theorem dX1_house_116 : decode cX1_house 116 = .ok (.iadd, 1) := dk_96 (dk_at dksX1_house_4 19 rfl rfl)
theorem dX1_house_117 : decode cX1_house 117 = .ok (.iaload, 1) := dk_46 (dk_at dksX1_house_4 20 rfl rfl)
theorem dX1_house_118 : decode cX1_house 118 = .ok (.ifCond .le 7, 3) := dk_158 0 7 (dk_at dksX1_house_4 21 rfl rfl)
theorem dX1_house_121 : decode cX1_house 121 = .ok (.iconst 1, 1) := dk_4 (dk_at dksX1_house_5 0 rfl rfl)
theorem dX1_house_122 : decode cX1_house 122 = .ok (.goto 4, 3) := dk_167 0 4 (dk_at dksX1_house_5 1 rfl rfl)
theorem dX1_house_125 : decode cX1_house 125 = .ok (.iconst 0, 1) := dk_3 (dk_at dksX1_house_5 4 rfl rfl)
theorem dX1_house_126 : decode cX1_house 126 = .ok (.iadd, 1) := dk_96 (dk_at dksX1_house_5 5 rfl rfl)
theorem dX1_house_127 : decode cX1_house 127 = .ok (.istore_n 3, 1) := dk_62 (dk_at dksX1_house_5 6 rfl rfl)
theorem dX1_house_128 : decode cX1_house 128 = .ok (.iinc 4 1, 3) := dk_132 4 1 (dk_at dksX1_house_5 7 rfl rfl)
theorem dX1_house_131 : decode cX1_house 131 = .ok (.goto (-36), 3) := dk_167 255 220 (dk_at dksX1_house_5 10 rfl rfl)
theorem dX1_house_134 : decode cX1_house 134 = .ok (.iload_n 3, 1) := dk_29 (dk_at dksX1_house_5 13 rfl rfl)
theorem dX1_house_135 : decode cX1_house 135 = .ok (.ireturn, 1) := dk_172 (dk_at dksX1_house_5 14 rfl rfl)
theorem dX1_house_136 : decode cX1_house 136 = .ok (.aload_n 0, 1) := dk_42 (dk_at dksX1_house_5 15 rfl rfl)
theorem dX1_house_137 : decode cX1_house 137 = .ok (.getfield 22, 3) := dk_180 0 22 (dk_at dksX1_house_5 16 rfl rfl)
theorem dX1_house_140 : decode cX1_house 140 = .ok (.getfield 289, 3) := dk_180 1 33 (dk_at dksX1_house_5 19 rfl rfl)
theorem dX1_house_143 : decode cX1_house 143 = .ok (.iload_n 1, 1) := dk_27 (dk_at dksX1_house_5 22 rfl rfl)
theorem dX1_house_144 : decode cX1_house 144 = .ok (.iaload, 1) := dk_46 (dk_at dksX1_house_5 23 rfl rfl)
theorem dX1_house_145 : decode cX1_house 145 = .ok (.ireturn, 1) := dk_172 (dk_at dksX1_house_6 0 rfl rfl)
abbrev cX1_needHouse : ByteArray := prog_1_method_9_code
def yX1_needHouse : MethodName := ⟨RX1, "needHouse", "(I)V"⟩
def dkwX1_needHouse_0 : List UInt8 := [42, 27, 42, 180, 0, 22, 180, 0, 149, 182, 0, 152, 177]
abbrev dktX1_needHouse_0 : List UInt8 := dkwX1_needHouse_0 ++ []
theorem dksX1_needHouse_0 : cX1_needHouse.data.toList.drop 0 = dktX1_needHouse_0 := by decide +kernel
theorem dX1_needHouse_0 : decode cX1_needHouse 0 = .ok (.aload_n 0, 1) := dk_42 (dk_at dksX1_needHouse_0 0 rfl rfl)
theorem dX1_needHouse_1 : decode cX1_needHouse 1 = .ok (.iload_n 1, 1) := dk_27 (dk_at dksX1_needHouse_0 1 rfl rfl)
theorem dX1_needHouse_2 : decode cX1_needHouse 2 = .ok (.aload_n 0, 1) := dk_42 (dk_at dksX1_needHouse_0 2 rfl rfl)
theorem dX1_needHouse_3 : decode cX1_needHouse 3 = .ok (.getfield 22, 3) := dk_180 0 22 (dk_at dksX1_needHouse_0 3 rfl rfl)
theorem dX1_needHouse_6 : decode cX1_needHouse 6 = .ok (.getfield 149, 3) := dk_180 0 149 (dk_at dksX1_needHouse_0 6 rfl rfl)
theorem dX1_needHouse_9 : decode cX1_needHouse 9 = .ok (.invokevirtual 152, 3) := dk_182 0 152 (dk_at dksX1_needHouse_0 9 rfl rfl)
theorem dX1_needHouse_12 : decode cX1_needHouse 12 = .ok (.return_, 1) := dk_177 (dk_at dksX1_needHouse_0 12 rfl rfl)
abbrev cX1_needThere : ByteArray := prog_1_method_8_code
def yX1_needThere : MethodName := ⟨RX1, "needThere", "(II)V"⟩
def dkwX1_needThere_1 : List UInt8 := [183, 0, 148, 191]
abbrev dktX1_needThere_1 : List UInt8 := dkwX1_needThere_1 ++ []
def dkwX1_needThere_0 : List UInt8 := [27, 155, 0, 9, 27, 28, 162, 0, 4, 177, 42, 180, 0, 41, 3, 92, 46, 4, 96, 79, 187, 0, 146, 89]
abbrev dktX1_needThere_0 : List UInt8 := dkwX1_needThere_0 ++ dktX1_needThere_1
theorem dksX1_needThere_0 : cX1_needThere.data.toList.drop 0 = dktX1_needThere_0 := by decide +kernel
theorem dksX1_needThere_1 : cX1_needThere.data.toList.drop 24 = dktX1_needThere_1 := dk_seg dksX1_needThere_0 24 rfl rfl
theorem dX1_needThere_0 : decode cX1_needThere 0 = .ok (.iload_n 1, 1) := dk_27 (dk_at dksX1_needThere_0 0 rfl rfl)
theorem dX1_needThere_1 : decode cX1_needThere 1 = .ok (.ifCond .lt 9, 3) := dk_155 0 9 (dk_at dksX1_needThere_0 1 rfl rfl)
theorem dX1_needThere_4 : decode cX1_needThere 4 = .ok (.iload_n 1, 1) := dk_27 (dk_at dksX1_needThere_0 4 rfl rfl)
theorem dX1_needThere_5 : decode cX1_needThere 5 = .ok (.iload_n 2, 1) := dk_28 (dk_at dksX1_needThere_0 5 rfl rfl)
theorem dX1_needThere_6 : decode cX1_needThere 6 = .ok (.if_icmp .ge 4, 3) := dk_162 0 4 (dk_at dksX1_needThere_0 6 rfl rfl)
theorem dX1_needThere_9 : decode cX1_needThere 9 = .ok (.return_, 1) := dk_177 (dk_at dksX1_needThere_0 9 rfl rfl)
theorem dX1_needThere_10 : decode cX1_needThere 10 = .ok (.aload_n 0, 1) := dk_42 (dk_at dksX1_needThere_0 10 rfl rfl)
theorem dX1_needThere_11 : decode cX1_needThere 11 = .ok (.getfield 41, 3) := dk_180 0 41 (dk_at dksX1_needThere_0 11 rfl rfl)
theorem dX1_needThere_14 : decode cX1_needThere 14 = .ok (.iconst 0, 1) := dk_3 (dk_at dksX1_needThere_0 14 rfl rfl)
theorem dX1_needThere_15 : decode cX1_needThere 15 = .ok (.dup2, 1) := dk_92 (dk_at dksX1_needThere_0 15 rfl rfl)
theorem dX1_needThere_16 : decode cX1_needThere 16 = .ok (.iaload, 1) := dk_46 (dk_at dksX1_needThere_0 16 rfl rfl)
theorem dX1_needThere_17 : decode cX1_needThere 17 = .ok (.iconst 1, 1) := dk_4 (dk_at dksX1_needThere_0 17 rfl rfl)
theorem dX1_needThere_18 : decode cX1_needThere 18 = .ok (.iadd, 1) := dk_96 (dk_at dksX1_needThere_0 18 rfl rfl)
theorem dX1_needThere_19 : decode cX1_needThere 19 = .ok (.iastore, 1) := dk_79 (dk_at dksX1_needThere_0 19 rfl rfl)
theorem dX1_needThere_20 : decode cX1_needThere 20 = .ok (.new 146, 3) := dk_187 0 146 (dk_at dksX1_needThere_0 20 rfl rfl)
theorem dX1_needThere_23 : decode cX1_needThere 23 = .ok (.dup, 1) := dk_89 (dk_at dksX1_needThere_0 23 rfl rfl)
theorem dX1_needThere_24 : decode cX1_needThere 24 = .ok (.invokespecial 148, 3) := dk_183 0 148 (dk_at dksX1_needThere_1 0 rfl rfl)
theorem dX1_needThere_27 : decode cX1_needThere 27 = .ok (.athrow, 1) := dk_191 (dk_at dksX1_needThere_1 3 rfl rfl)
abbrev cX1_there : ByteArray := prog_1_method_28_code
def yX1_there : MethodName := ⟨RX1, "there", "(II)I"⟩
def dkwX1_there_1 : List UInt8 := [28, 96, 46, 172]
abbrev dktX1_there_1 : List UInt8 := dkwX1_there_1 ++ []
def dkwX1_there_0 : List UInt8 := [42, 27, 182, 1, 18, 42, 28, 184, 1, 36, 182, 0, 172, 42, 180, 0, 49, 180, 1, 30, 16, 10, 27, 104]
abbrev dktX1_there_0 : List UInt8 := dkwX1_there_0 ++ dktX1_there_1
theorem dksX1_there_0 : cX1_there.data.toList.drop 0 = dktX1_there_0 := by decide +kernel
theorem dksX1_there_1 : cX1_there.data.toList.drop 24 = dktX1_there_1 := dk_seg dksX1_there_0 24 rfl rfl
theorem dX1_there_0 : decode cX1_there 0 = .ok (.aload_n 0, 1) := dk_42 (dk_at dksX1_there_0 0 rfl rfl)
theorem dX1_there_1 : decode cX1_there 1 = .ok (.iload_n 1, 1) := dk_27 (dk_at dksX1_there_0 1 rfl rfl)
theorem dX1_there_2 : decode cX1_there 2 = .ok (.invokevirtual 274, 3) := dk_182 1 18 (dk_at dksX1_there_0 2 rfl rfl)
theorem dX1_there_5 : decode cX1_there 5 = .ok (.aload_n 0, 1) := dk_42 (dk_at dksX1_there_0 5 rfl rfl)
theorem dX1_there_6 : decode cX1_there 6 = .ok (.iload_n 2, 1) := dk_28 (dk_at dksX1_there_0 6 rfl rfl)
theorem dX1_there_7 : decode cX1_there 7 = .ok (.invokestatic 292, 3) := dk_184 1 36 (dk_at dksX1_there_0 7 rfl rfl)
theorem dX1_there_10 : decode cX1_there 10 = .ok (.invokevirtual 172, 3) := dk_182 0 172 (dk_at dksX1_there_0 10 rfl rfl)
theorem dX1_there_13 : decode cX1_there 13 = .ok (.aload_n 0, 1) := dk_42 (dk_at dksX1_there_0 13 rfl rfl)
theorem dX1_there_14 : decode cX1_there 14 = .ok (.getfield 49, 3) := dk_180 0 49 (dk_at dksX1_there_0 14 rfl rfl)
theorem dX1_there_17 : decode cX1_there 17 = .ok (.getfield 286, 3) := dk_180 1 30 (dk_at dksX1_there_0 17 rfl rfl)
theorem dX1_there_20 : decode cX1_there 20 = .ok (.bipush 10, 2) := dk_16 10 (dk_at dksX1_there_0 20 rfl rfl)
theorem dX1_there_22 : decode cX1_there 22 = .ok (.iload_n 1, 1) := dk_27 (dk_at dksX1_there_0 22 rfl rfl)
theorem dX1_there_23 : decode cX1_there 23 = .ok (.imul, 1) := dk_104 (dk_at dksX1_there_0 23 rfl rfl)
theorem dX1_there_24 : decode cX1_there 24 = .ok (.iload_n 2, 1) := dk_28 (dk_at dksX1_there_1 0 rfl rfl)
theorem dX1_there_25 : decode cX1_there 25 = .ok (.iadd, 1) := dk_96 (dk_at dksX1_there_1 1 rfl rfl)
theorem dX1_there_26 : decode cX1_there 26 = .ok (.iaload, 1) := dk_46 (dk_at dksX1_there_1 2 rfl rfl)
theorem dX1_there_27 : decode cX1_there 27 = .ok (.ireturn, 1) := dk_172 (dk_at dksX1_there_1 3 rfl rfl)
abbrev cX1_isThing : ByteArray := prog_1_method_13_code
def yX1_isThing : MethodName := ⟨RX1, "isThing", "(I)Z"⟩
def dkwX1_isThing_0 : List UInt8 := [26, 155, 0, 13, 26, 16, 10, 162, 0, 7, 4, 167, 0, 4, 3, 172]
abbrev dktX1_isThing_0 : List UInt8 := dkwX1_isThing_0 ++ []
theorem dksX1_isThing_0 : cX1_isThing.data.toList.drop 0 = dktX1_isThing_0 := by decide +kernel
theorem dX1_isThing_0 : decode cX1_isThing 0 = .ok (.iload_n 0, 1) := dk_26 (dk_at dksX1_isThing_0 0 rfl rfl)
theorem dX1_isThing_1 : decode cX1_isThing 1 = .ok (.ifCond .lt 13, 3) := dk_155 0 13 (dk_at dksX1_isThing_0 1 rfl rfl)
theorem dX1_isThing_4 : decode cX1_isThing 4 = .ok (.iload_n 0, 1) := dk_26 (dk_at dksX1_isThing_0 4 rfl rfl)
theorem dX1_isThing_5 : decode cX1_isThing 5 = .ok (.bipush 10, 2) := dk_16 10 (dk_at dksX1_isThing_0 5 rfl rfl)
theorem dX1_isThing_7 : decode cX1_isThing 7 = .ok (.if_icmp .ge 7, 3) := dk_162 0 7 (dk_at dksX1_isThing_0 7 rfl rfl)
theorem dX1_isThing_10 : decode cX1_isThing 10 = .ok (.iconst 1, 1) := dk_4 (dk_at dksX1_isThing_0 10 rfl rfl)
theorem dX1_isThing_11 : decode cX1_isThing 11 = .ok (.goto 4, 3) := dk_167 0 4 (dk_at dksX1_isThing_0 11 rfl rfl)
theorem dX1_isThing_14 : decode cX1_isThing 14 = .ok (.iconst 0, 1) := dk_3 (dk_at dksX1_isThing_0 14 rfl rfl)
theorem dX1_isThing_15 : decode cX1_isThing 15 = .ok (.ireturn, 1) := dk_172 (dk_at dksX1_isThing_0 15 rfl rfl)
abbrev cX1_wall : ByteArray := prog_1_method_29_code
def yX1_wall : MethodName := ⟨RX1, "wall", "(II)I"⟩
def dkwX1_wall_1 : List UInt8 := [42, 180, 0, 22, 180, 1, 43, 27, 46, 167, 0, 12, 42, 180, 0, 22, 180, 1, 46, 27, 46, 172]
abbrev dktX1_wall_1 : List UInt8 := dkwX1_wall_1 ++ []
def dkwX1_wall_0 : List UInt8 := [42, 27, 42, 180, 0, 22, 180, 0, 250, 182, 0, 152, 42, 28, 184, 1, 40, 182, 0, 172, 28, 154, 0, 15]
abbrev dktX1_wall_0 : List UInt8 := dkwX1_wall_0 ++ dktX1_wall_1
theorem dksX1_wall_0 : cX1_wall.data.toList.drop 0 = dktX1_wall_0 := by decide +kernel
theorem dksX1_wall_1 : cX1_wall.data.toList.drop 24 = dktX1_wall_1 := dk_seg dksX1_wall_0 24 rfl rfl
theorem dX1_wall_0 : decode cX1_wall 0 = .ok (.aload_n 0, 1) := dk_42 (dk_at dksX1_wall_0 0 rfl rfl)
theorem dX1_wall_1 : decode cX1_wall 1 = .ok (.iload_n 1, 1) := dk_27 (dk_at dksX1_wall_0 1 rfl rfl)
theorem dX1_wall_2 : decode cX1_wall 2 = .ok (.aload_n 0, 1) := dk_42 (dk_at dksX1_wall_0 2 rfl rfl)
theorem dX1_wall_3 : decode cX1_wall 3 = .ok (.getfield 22, 3) := dk_180 0 22 (dk_at dksX1_wall_0 3 rfl rfl)
theorem dX1_wall_6 : decode cX1_wall 6 = .ok (.getfield 250, 3) := dk_180 0 250 (dk_at dksX1_wall_0 6 rfl rfl)
theorem dX1_wall_9 : decode cX1_wall 9 = .ok (.invokevirtual 152, 3) := dk_182 0 152 (dk_at dksX1_wall_0 9 rfl rfl)
theorem dX1_wall_12 : decode cX1_wall 12 = .ok (.aload_n 0, 1) := dk_42 (dk_at dksX1_wall_0 12 rfl rfl)
theorem dX1_wall_13 : decode cX1_wall 13 = .ok (.iload_n 2, 1) := dk_28 (dk_at dksX1_wall_0 13 rfl rfl)
theorem dX1_wall_14 : decode cX1_wall 14 = .ok (.invokestatic 296, 3) := dk_184 1 40 (dk_at dksX1_wall_0 14 rfl rfl)
theorem dX1_wall_17 : decode cX1_wall 17 = .ok (.invokevirtual 172, 3) := dk_182 0 172 (dk_at dksX1_wall_0 17 rfl rfl)
theorem dX1_wall_20 : decode cX1_wall 20 = .ok (.iload_n 2, 1) := dk_28 (dk_at dksX1_wall_0 20 rfl rfl)
theorem dX1_wall_21 : decode cX1_wall 21 = .ok (.ifCond .ne 15, 3) := dk_154 0 15 (dk_at dksX1_wall_0 21 rfl rfl)
theorem dX1_wall_24 : decode cX1_wall 24 = .ok (.aload_n 0, 1) := dk_42 (dk_at dksX1_wall_1 0 rfl rfl)
theorem dX1_wall_25 : decode cX1_wall 25 = .ok (.getfield 22, 3) := dk_180 0 22 (dk_at dksX1_wall_1 1 rfl rfl)
theorem dX1_wall_28 : decode cX1_wall 28 = .ok (.getfield 299, 3) := dk_180 1 43 (dk_at dksX1_wall_1 4 rfl rfl)
theorem dX1_wall_31 : decode cX1_wall 31 = .ok (.iload_n 1, 1) := dk_27 (dk_at dksX1_wall_1 7 rfl rfl)
theorem dX1_wall_32 : decode cX1_wall 32 = .ok (.iaload, 1) := dk_46 (dk_at dksX1_wall_1 8 rfl rfl)
theorem dX1_wall_33 : decode cX1_wall 33 = .ok (.goto 12, 3) := dk_167 0 12 (dk_at dksX1_wall_1 9 rfl rfl)
theorem dX1_wall_36 : decode cX1_wall 36 = .ok (.aload_n 0, 1) := dk_42 (dk_at dksX1_wall_1 12 rfl rfl)
theorem dX1_wall_37 : decode cX1_wall 37 = .ok (.getfield 22, 3) := dk_180 0 22 (dk_at dksX1_wall_1 13 rfl rfl)
theorem dX1_wall_40 : decode cX1_wall 40 = .ok (.getfield 302, 3) := dk_180 1 46 (dk_at dksX1_wall_1 16 rfl rfl)
theorem dX1_wall_43 : decode cX1_wall 43 = .ok (.iload_n 1, 1) := dk_27 (dk_at dksX1_wall_1 19 rfl rfl)
theorem dX1_wall_44 : decode cX1_wall 44 = .ok (.iaload, 1) := dk_46 (dk_at dksX1_wall_1 20 rfl rfl)
theorem dX1_wall_45 : decode cX1_wall 45 = .ok (.ireturn, 1) := dk_172 (dk_at dksX1_wall_1 21 rfl rfl)
abbrev cX1_piano : ByteArray := prog_1_method_30_code
def yX1_piano : MethodName := ⟨RX1, "piano", "(II)I"⟩
def dkwX1_piano_5 : List UInt8 := [27, 182, 0, 242, 172]
abbrev dktX1_piano_5 : List UInt8 := dkwX1_piano_5 ++ []
def dkwX1_piano_4 : List UInt8 := [46, 172, 42, 180, 0, 49, 27, 182, 1, 67, 172, 42, 180, 0, 49, 27, 182, 1, 70, 172, 42, 180, 0, 49]
abbrev dktX1_piano_4 : List UInt8 := dkwX1_piano_4 ++ dktX1_piano_5
def dkwX1_piano_3 : List UInt8 := [180, 0, 239, 27, 46, 172, 42, 180, 0, 49, 180, 1, 61, 27, 46, 172, 42, 180, 0, 49, 180, 1, 64, 27]
abbrev dktX1_piano_3 : List UInt8 := dkwX1_piano_3 ++ dktX1_piano_4
def dkwX1_piano_2 : List UInt8 := [42, 27, 182, 1, 52, 180, 1, 56, 172, 42, 27, 182, 1, 52, 180, 1, 58, 172, 42, 180, 0, 49]
abbrev dktX1_piano_2 : List UInt8 := dkwX1_piano_2 ++ dktX1_piano_3
def dkwX1_piano_1 : List UInt8 := [170, 0, 0, 0, 0, 0, 109, 0, 0, 0, 0, 0, 0, 0, 6, 0, 0, 0, 43, 0, 0, 0, 52, 0, 0, 0, 61, 0, 0, 0, 71, 0, 0, 0, 81, 0, 0, 0, 91, 0, 0, 0, 100]
abbrev dktX1_piano_1 : List UInt8 := dkwX1_piano_1 ++ dktX1_piano_2
def dkwX1_piano_0 : List UInt8 := [42, 27, 182, 1, 49, 42, 28, 3, 16, 7, 184, 0, 246, 182, 0, 172, 28]
abbrev dktX1_piano_0 : List UInt8 := dkwX1_piano_0 ++ dktX1_piano_1
theorem dksX1_piano_0 : cX1_piano.data.toList.drop 0 = dktX1_piano_0 := by decide +kernel
theorem dksX1_piano_1 : cX1_piano.data.toList.drop 17 = dktX1_piano_1 := dk_seg dksX1_piano_0 17 rfl rfl
theorem dksX1_piano_2 : cX1_piano.data.toList.drop 60 = dktX1_piano_2 := dk_seg dksX1_piano_1 43 rfl rfl
theorem dksX1_piano_3 : cX1_piano.data.toList.drop 82 = dktX1_piano_3 := dk_seg dksX1_piano_2 22 rfl rfl
theorem dksX1_piano_4 : cX1_piano.data.toList.drop 106 = dktX1_piano_4 := dk_seg dksX1_piano_3 24 rfl rfl
theorem dksX1_piano_5 : cX1_piano.data.toList.drop 130 = dktX1_piano_5 := dk_seg dksX1_piano_4 24 rfl rfl
theorem dX1_piano_0 : decode cX1_piano 0 = .ok (.aload_n 0, 1) := dk_42 (dk_at dksX1_piano_0 0 rfl rfl)
theorem dX1_piano_1 : decode cX1_piano 1 = .ok (.iload_n 1, 1) := dk_27 (dk_at dksX1_piano_0 1 rfl rfl)
theorem dX1_piano_2 : decode cX1_piano 2 = .ok (.invokevirtual 305, 3) := dk_182 1 49 (dk_at dksX1_piano_0 2 rfl rfl)
theorem dX1_piano_5 : decode cX1_piano 5 = .ok (.aload_n 0, 1) := dk_42 (dk_at dksX1_piano_0 5 rfl rfl)
theorem dX1_piano_6 : decode cX1_piano 6 = .ok (.iload_n 2, 1) := dk_28 (dk_at dksX1_piano_0 6 rfl rfl)
theorem dX1_piano_7 : decode cX1_piano 7 = .ok (.iconst 0, 1) := dk_3 (dk_at dksX1_piano_0 7 rfl rfl)
theorem dX1_piano_8 : decode cX1_piano 8 = .ok (.bipush 7, 2) := dk_16 7 (dk_at dksX1_piano_0 8 rfl rfl)
theorem dX1_piano_10 : decode cX1_piano 10 = .ok (.invokestatic 246, 3) := dk_184 0 246 (dk_at dksX1_piano_0 10 rfl rfl)
theorem dX1_piano_13 : decode cX1_piano 13 = .ok (.invokevirtual 172, 3) := dk_182 0 172 (dk_at dksX1_piano_0 13 rfl rfl)
theorem dX1_piano_16 : decode cX1_piano 16 = .ok (.iload_n 2, 1) := dk_28 (dk_at dksX1_piano_0 16 rfl rfl)
theorem dX1_piano_17 : decode cX1_piano 17 = .ok (.tableswitch 109 0 6 #[43, 52, 61, 71, 81, 91, 100], 43) := by decide +kernel
theorem dX1_piano_60 : decode cX1_piano 60 = .ok (.aload_n 0, 1) := dk_42 (dk_at dksX1_piano_2 0 rfl rfl)
theorem dX1_piano_61 : decode cX1_piano 61 = .ok (.iload_n 1, 1) := dk_27 (dk_at dksX1_piano_2 1 rfl rfl)
theorem dX1_piano_62 : decode cX1_piano 62 = .ok (.invokevirtual 308, 3) := dk_182 1 52 (dk_at dksX1_piano_2 2 rfl rfl)
theorem dX1_piano_65 : decode cX1_piano 65 = .ok (.getfield 312, 3) := dk_180 1 56 (dk_at dksX1_piano_2 5 rfl rfl)
theorem dX1_piano_68 : decode cX1_piano 68 = .ok (.ireturn, 1) := dk_172 (dk_at dksX1_piano_2 8 rfl rfl)
theorem dX1_piano_69 : decode cX1_piano 69 = .ok (.aload_n 0, 1) := dk_42 (dk_at dksX1_piano_2 9 rfl rfl)
theorem dX1_piano_70 : decode cX1_piano 70 = .ok (.iload_n 1, 1) := dk_27 (dk_at dksX1_piano_2 10 rfl rfl)
theorem dX1_piano_71 : decode cX1_piano 71 = .ok (.invokevirtual 308, 3) := dk_182 1 52 (dk_at dksX1_piano_2 11 rfl rfl)
theorem dX1_piano_74 : decode cX1_piano 74 = .ok (.getfield 314, 3) := dk_180 1 58 (dk_at dksX1_piano_2 14 rfl rfl)
theorem dX1_piano_77 : decode cX1_piano 77 = .ok (.ireturn, 1) := dk_172 (dk_at dksX1_piano_2 17 rfl rfl)
theorem dX1_piano_78 : decode cX1_piano 78 = .ok (.aload_n 0, 1) := dk_42 (dk_at dksX1_piano_2 18 rfl rfl)
theorem dX1_piano_79 : decode cX1_piano 79 = .ok (.getfield 49, 3) := dk_180 0 49 (dk_at dksX1_piano_2 19 rfl rfl)
theorem dX1_piano_82 : decode cX1_piano 82 = .ok (.getfield 239, 3) := dk_180 0 239 (dk_at dksX1_piano_3 0 rfl rfl)
theorem dX1_piano_85 : decode cX1_piano 85 = .ok (.iload_n 1, 1) := dk_27 (dk_at dksX1_piano_3 3 rfl rfl)
theorem dX1_piano_86 : decode cX1_piano 86 = .ok (.iaload, 1) := dk_46 (dk_at dksX1_piano_3 4 rfl rfl)
theorem dX1_piano_87 : decode cX1_piano 87 = .ok (.ireturn, 1) := dk_172 (dk_at dksX1_piano_3 5 rfl rfl)
theorem dX1_piano_88 : decode cX1_piano 88 = .ok (.aload_n 0, 1) := dk_42 (dk_at dksX1_piano_3 6 rfl rfl)
theorem dX1_piano_89 : decode cX1_piano 89 = .ok (.getfield 49, 3) := dk_180 0 49 (dk_at dksX1_piano_3 7 rfl rfl)
theorem dX1_piano_92 : decode cX1_piano 92 = .ok (.getfield 317, 3) := dk_180 1 61 (dk_at dksX1_piano_3 10 rfl rfl)
theorem dX1_piano_95 : decode cX1_piano 95 = .ok (.iload_n 1, 1) := dk_27 (dk_at dksX1_piano_3 13 rfl rfl)
theorem dX1_piano_96 : decode cX1_piano 96 = .ok (.iaload, 1) := dk_46 (dk_at dksX1_piano_3 14 rfl rfl)
theorem dX1_piano_97 : decode cX1_piano 97 = .ok (.ireturn, 1) := dk_172 (dk_at dksX1_piano_3 15 rfl rfl)
theorem dX1_piano_98 : decode cX1_piano 98 = .ok (.aload_n 0, 1) := dk_42 (dk_at dksX1_piano_3 16 rfl rfl)
theorem dX1_piano_99 : decode cX1_piano 99 = .ok (.getfield 49, 3) := dk_180 0 49 (dk_at dksX1_piano_3 17 rfl rfl)
theorem dX1_piano_102 : decode cX1_piano 102 = .ok (.getfield 320, 3) := dk_180 1 64 (dk_at dksX1_piano_3 20 rfl rfl)
theorem dX1_piano_105 : decode cX1_piano 105 = .ok (.iload_n 1, 1) := dk_27 (dk_at dksX1_piano_3 23 rfl rfl)
theorem dX1_piano_106 : decode cX1_piano 106 = .ok (.iaload, 1) := dk_46 (dk_at dksX1_piano_4 0 rfl rfl)
theorem dX1_piano_107 : decode cX1_piano 107 = .ok (.ireturn, 1) := dk_172 (dk_at dksX1_piano_4 1 rfl rfl)
theorem dX1_piano_108 : decode cX1_piano 108 = .ok (.aload_n 0, 1) := dk_42 (dk_at dksX1_piano_4 2 rfl rfl)
theorem dX1_piano_109 : decode cX1_piano 109 = .ok (.getfield 49, 3) := dk_180 0 49 (dk_at dksX1_piano_4 3 rfl rfl)
theorem dX1_piano_112 : decode cX1_piano 112 = .ok (.iload_n 1, 1) := dk_27 (dk_at dksX1_piano_4 6 rfl rfl)
theorem dX1_piano_113 : decode cX1_piano 113 = .ok (.invokevirtual 323, 3) := dk_182 1 67 (dk_at dksX1_piano_4 7 rfl rfl)
theorem dX1_piano_116 : decode cX1_piano 116 = .ok (.ireturn, 1) := dk_172 (dk_at dksX1_piano_4 10 rfl rfl)
theorem dX1_piano_117 : decode cX1_piano 117 = .ok (.aload_n 0, 1) := dk_42 (dk_at dksX1_piano_4 11 rfl rfl)
theorem dX1_piano_118 : decode cX1_piano 118 = .ok (.getfield 49, 3) := dk_180 0 49 (dk_at dksX1_piano_4 12 rfl rfl)
theorem dX1_piano_121 : decode cX1_piano 121 = .ok (.iload_n 1, 1) := dk_27 (dk_at dksX1_piano_4 15 rfl rfl)
theorem dX1_piano_122 : decode cX1_piano 122 = .ok (.invokevirtual 326, 3) := dk_182 1 70 (dk_at dksX1_piano_4 16 rfl rfl)
theorem dX1_piano_125 : decode cX1_piano 125 = .ok (.ireturn, 1) := dk_172 (dk_at dksX1_piano_4 19 rfl rfl)
theorem dX1_piano_126 : decode cX1_piano 126 = .ok (.aload_n 0, 1) := dk_42 (dk_at dksX1_piano_4 20 rfl rfl)
theorem dX1_piano_127 : decode cX1_piano 127 = .ok (.getfield 49, 3) := dk_180 0 49 (dk_at dksX1_piano_4 21 rfl rfl)
theorem dX1_piano_130 : decode cX1_piano 130 = .ok (.iload_n 1, 1) := dk_27 (dk_at dksX1_piano_5 0 rfl rfl)
theorem dX1_piano_131 : decode cX1_piano 131 = .ok (.invokevirtual 242, 3) := dk_182 0 242 (dk_at dksX1_piano_5 1 rfl rfl)
theorem dX1_piano_134 : decode cX1_piano 134 = .ok (.ireturn, 1) := dk_172 (dk_at dksX1_piano_5 4 rfl rfl)
abbrev cX1_needPiano : ByteArray := prog_1_method_10_code
def yX1_needPiano : MethodName := ⟨RX1, "needPiano", "(I)V"⟩
def dkwX1_needPiano_0 : List UInt8 := [42, 27, 42, 182, 0, 156, 182, 0, 152, 177]
abbrev dktX1_needPiano_0 : List UInt8 := dkwX1_needPiano_0 ++ []
theorem dksX1_needPiano_0 : cX1_needPiano.data.toList.drop 0 = dktX1_needPiano_0 := by decide +kernel
theorem dX1_needPiano_0 : decode cX1_needPiano 0 = .ok (.aload_n 0, 1) := dk_42 (dk_at dksX1_needPiano_0 0 rfl rfl)
theorem dX1_needPiano_1 : decode cX1_needPiano 1 = .ok (.iload_n 1, 1) := dk_27 (dk_at dksX1_needPiano_0 1 rfl rfl)
theorem dX1_needPiano_2 : decode cX1_needPiano 2 = .ok (.aload_n 0, 1) := dk_42 (dk_at dksX1_needPiano_0 2 rfl rfl)
theorem dX1_needPiano_3 : decode cX1_needPiano 3 = .ok (.invokevirtual 156, 3) := dk_182 0 156 (dk_at dksX1_needPiano_0 3 rfl rfl)
theorem dX1_needPiano_6 : decode cX1_needPiano 6 = .ok (.invokevirtual 152, 3) := dk_182 0 152 (dk_at dksX1_needPiano_0 6 rfl rfl)
theorem dX1_needPiano_9 : decode cX1_needPiano 9 = .ok (.return_, 1) := dk_177 (dk_at dksX1_needPiano_0 9 rfl rfl)
abbrev cX1_would : ByteArray := prog_1_method_31_code
def yX1_would : MethodName := ⟨RX1, "would", "(IIIIIIII)I"⟩
def dkwX1_would_4 : List UInt8 := [27, 28, 29, 21, 4, 21, 5, 21, 6, 21, 7, 21, 8, 182, 1, 73, 172]
abbrev dktX1_would_4 : List UInt8 := dkwX1_would_4 ++ []
def dkwX1_would_3 : List UInt8 := [153, 0, 19, 21, 8, 3, 17, 1, 244, 184, 0, 246, 153, 0, 7, 4, 167, 0, 4, 3, 182, 0, 172, 42]
abbrev dktX1_would_3 : List UInt8 := dkwX1_would_3 ++ dktX1_would_4
def dkwX1_would_2 : List UInt8 := [184, 1, 36, 153, 0, 40, 21, 6, 3, 8, 184, 0, 246, 153, 0, 30, 21, 7, 3, 16, 7, 184, 0, 246]
abbrev dktX1_would_2 : List UInt8 := dkwX1_would_2 ++ dktX1_would_3
def dkwX1_would_1 : List UInt8 := [17, 3, 231, 184, 0, 246, 153, 0, 59, 21, 4, 3, 16, 99, 184, 0, 246, 153, 0, 48, 21, 5]
abbrev dktX1_would_1 : List UInt8 := dkwX1_would_1 ++ dktX1_would_2
def dkwX1_would_0 : List UInt8 := [42, 27, 4, 16, 9, 184, 0, 246, 153, 0, 80, 28, 3, 16, 9, 184, 0, 246, 153, 0, 70, 29, 3]
abbrev dktX1_would_0 : List UInt8 := dkwX1_would_0 ++ dktX1_would_1
theorem dksX1_would_0 : cX1_would.data.toList.drop 0 = dktX1_would_0 := by decide +kernel
theorem dksX1_would_1 : cX1_would.data.toList.drop 23 = dktX1_would_1 := dk_seg dksX1_would_0 23 rfl rfl
theorem dksX1_would_2 : cX1_would.data.toList.drop 45 = dktX1_would_2 := dk_seg dksX1_would_1 22 rfl rfl
theorem dksX1_would_3 : cX1_would.data.toList.drop 69 = dktX1_would_3 := dk_seg dksX1_would_2 24 rfl rfl
theorem dksX1_would_4 : cX1_would.data.toList.drop 93 = dktX1_would_4 := dk_seg dksX1_would_3 24 rfl rfl
theorem dX1_would_0 : decode cX1_would 0 = .ok (.aload_n 0, 1) := dk_42 (dk_at dksX1_would_0 0 rfl rfl)
theorem dX1_would_1 : decode cX1_would 1 = .ok (.iload_n 1, 1) := dk_27 (dk_at dksX1_would_0 1 rfl rfl)
theorem dX1_would_2 : decode cX1_would 2 = .ok (.iconst 1, 1) := dk_4 (dk_at dksX1_would_0 2 rfl rfl)
theorem dX1_would_3 : decode cX1_would 3 = .ok (.bipush 9, 2) := dk_16 9 (dk_at dksX1_would_0 3 rfl rfl)
theorem dX1_would_5 : decode cX1_would 5 = .ok (.invokestatic 246, 3) := dk_184 0 246 (dk_at dksX1_would_0 5 rfl rfl)
theorem dX1_would_8 : decode cX1_would 8 = .ok (.ifCond .eq 80, 3) := dk_153 0 80 (dk_at dksX1_would_0 8 rfl rfl)
theorem dX1_would_11 : decode cX1_would 11 = .ok (.iload_n 2, 1) := dk_28 (dk_at dksX1_would_0 11 rfl rfl)
theorem dX1_would_12 : decode cX1_would 12 = .ok (.iconst 0, 1) := dk_3 (dk_at dksX1_would_0 12 rfl rfl)
theorem dX1_would_13 : decode cX1_would 13 = .ok (.bipush 9, 2) := dk_16 9 (dk_at dksX1_would_0 13 rfl rfl)
theorem dX1_would_15 : decode cX1_would 15 = .ok (.invokestatic 246, 3) := dk_184 0 246 (dk_at dksX1_would_0 15 rfl rfl)
theorem dX1_would_18 : decode cX1_would 18 = .ok (.ifCond .eq 70, 3) := dk_153 0 70 (dk_at dksX1_would_0 18 rfl rfl)
theorem dX1_would_21 : decode cX1_would 21 = .ok (.iload_n 3, 1) := dk_29 (dk_at dksX1_would_0 21 rfl rfl)
theorem dX1_would_22 : decode cX1_would 22 = .ok (.iconst 0, 1) := dk_3 (dk_at dksX1_would_0 22 rfl rfl)
theorem dX1_would_23 : decode cX1_would 23 = .ok (.sipush 999, 3) := dk_17 3 231 (dk_at dksX1_would_1 0 rfl rfl)
theorem dX1_would_26 : decode cX1_would 26 = .ok (.invokestatic 246, 3) := dk_184 0 246 (dk_at dksX1_would_1 3 rfl rfl)
theorem dX1_would_29 : decode cX1_would 29 = .ok (.ifCond .eq 59, 3) := dk_153 0 59 (dk_at dksX1_would_1 6 rfl rfl)
theorem dX1_would_32 : decode cX1_would 32 = .ok (.iload 4, 2) := dk_21 4 (dk_at dksX1_would_1 9 rfl rfl)
theorem dX1_would_34 : decode cX1_would 34 = .ok (.iconst 0, 1) := dk_3 (dk_at dksX1_would_1 11 rfl rfl)
theorem dX1_would_35 : decode cX1_would 35 = .ok (.bipush 99, 2) := dk_16 99 (dk_at dksX1_would_1 12 rfl rfl)
theorem dX1_would_37 : decode cX1_would 37 = .ok (.invokestatic 246, 3) := dk_184 0 246 (dk_at dksX1_would_1 14 rfl rfl)
theorem dX1_would_40 : decode cX1_would 40 = .ok (.ifCond .eq 48, 3) := dk_153 0 48 (dk_at dksX1_would_1 17 rfl rfl)
theorem dX1_would_43 : decode cX1_would 43 = .ok (.iload 5, 2) := dk_21 5 (dk_at dksX1_would_1 20 rfl rfl)
theorem dX1_would_45 : decode cX1_would 45 = .ok (.invokestatic 292, 3) := dk_184 1 36 (dk_at dksX1_would_2 0 rfl rfl)
theorem dX1_would_48 : decode cX1_would 48 = .ok (.ifCond .eq 40, 3) := dk_153 0 40 (dk_at dksX1_would_2 3 rfl rfl)
theorem dX1_would_51 : decode cX1_would 51 = .ok (.iload 6, 2) := dk_21 6 (dk_at dksX1_would_2 6 rfl rfl)
theorem dX1_would_53 : decode cX1_would 53 = .ok (.iconst 0, 1) := dk_3 (dk_at dksX1_would_2 8 rfl rfl)
theorem dX1_would_54 : decode cX1_would 54 = .ok (.iconst 5, 1) := dk_8 (dk_at dksX1_would_2 9 rfl rfl)
theorem dX1_would_55 : decode cX1_would 55 = .ok (.invokestatic 246, 3) := dk_184 0 246 (dk_at dksX1_would_2 10 rfl rfl)
theorem dX1_would_58 : decode cX1_would 58 = .ok (.ifCond .eq 30, 3) := dk_153 0 30 (dk_at dksX1_would_2 13 rfl rfl)
theorem dX1_would_61 : decode cX1_would 61 = .ok (.iload 7, 2) := dk_21 7 (dk_at dksX1_would_2 16 rfl rfl)
theorem dX1_would_63 : decode cX1_would 63 = .ok (.iconst 0, 1) := dk_3 (dk_at dksX1_would_2 18 rfl rfl)
theorem dX1_would_64 : decode cX1_would 64 = .ok (.bipush 7, 2) := dk_16 7 (dk_at dksX1_would_2 19 rfl rfl)
theorem dX1_would_66 : decode cX1_would 66 = .ok (.invokestatic 246, 3) := dk_184 0 246 (dk_at dksX1_would_2 21 rfl rfl)
theorem dX1_would_69 : decode cX1_would 69 = .ok (.ifCond .eq 19, 3) := dk_153 0 19 (dk_at dksX1_would_3 0 rfl rfl)
theorem dX1_would_72 : decode cX1_would 72 = .ok (.iload 8, 2) := dk_21 8 (dk_at dksX1_would_3 3 rfl rfl)
theorem dX1_would_74 : decode cX1_would 74 = .ok (.iconst 0, 1) := dk_3 (dk_at dksX1_would_3 5 rfl rfl)
theorem dX1_would_75 : decode cX1_would 75 = .ok (.sipush 500, 3) := dk_17 1 244 (dk_at dksX1_would_3 6 rfl rfl)
theorem dX1_would_78 : decode cX1_would 78 = .ok (.invokestatic 246, 3) := dk_184 0 246 (dk_at dksX1_would_3 9 rfl rfl)
theorem dX1_would_81 : decode cX1_would 81 = .ok (.ifCond .eq 7, 3) := dk_153 0 7 (dk_at dksX1_would_3 12 rfl rfl)
theorem dX1_would_84 : decode cX1_would 84 = .ok (.iconst 1, 1) := dk_4 (dk_at dksX1_would_3 15 rfl rfl)
theorem dX1_would_85 : decode cX1_would 85 = .ok (.goto 4, 3) := dk_167 0 4 (dk_at dksX1_would_3 16 rfl rfl)
theorem dX1_would_88 : decode cX1_would 88 = .ok (.iconst 0, 1) := dk_3 (dk_at dksX1_would_3 19 rfl rfl)
theorem dX1_would_89 : decode cX1_would 89 = .ok (.invokevirtual 172, 3) := dk_182 0 172 (dk_at dksX1_would_3 20 rfl rfl)
theorem dX1_would_92 : decode cX1_would 92 = .ok (.aload_n 0, 1) := dk_42 (dk_at dksX1_would_3 23 rfl rfl)
theorem dX1_would_93 : decode cX1_would 93 = .ok (.iload_n 1, 1) := dk_27 (dk_at dksX1_would_4 0 rfl rfl)
theorem dX1_would_94 : decode cX1_would 94 = .ok (.iload_n 2, 1) := dk_28 (dk_at dksX1_would_4 1 rfl rfl)
theorem dX1_would_95 : decode cX1_would 95 = .ok (.iload_n 3, 1) := dk_29 (dk_at dksX1_would_4 2 rfl rfl)
theorem dX1_would_96 : decode cX1_would 96 = .ok (.iload 4, 2) := dk_21 4 (dk_at dksX1_would_4 3 rfl rfl)
theorem dX1_would_98 : decode cX1_would 98 = .ok (.iload 5, 2) := dk_21 5 (dk_at dksX1_would_4 5 rfl rfl)
theorem dX1_would_100 : decode cX1_would 100 = .ok (.iload 6, 2) := dk_21 6 (dk_at dksX1_would_4 7 rfl rfl)
theorem dX1_would_102 : decode cX1_would 102 = .ok (.iload 7, 2) := dk_21 7 (dk_at dksX1_would_4 9 rfl rfl)
theorem dX1_would_104 : decode cX1_would 104 = .ok (.iload 8, 2) := dk_21 8 (dk_at dksX1_would_4 11 rfl rfl)
theorem dX1_would_106 : decode cX1_would 106 = .ok (.invokevirtual 329, 3) := dk_182 1 73 (dk_at dksX1_would_4 13 rfl rfl)
theorem dX1_would_109 : decode cX1_would 109 = .ok (.ireturn, 1) := dk_172 (dk_at dksX1_would_4 16 rfl rfl)
abbrev cX1_ahead : ByteArray := prog_1_method_32_code
def yX1_ahead : MethodName := ⟨RX1, "ahead", "(III)I"⟩
def dkwX1_ahead_4 : List UInt8 := [172]
abbrev dktX1_ahead_4 : List UInt8 := dkwX1_ahead_4 ++ []
def dkwX1_ahead_3 : List UInt8 := [54, 5, 29, 154, 0, 8, 21, 5, 167, 0, 16, 25, 4, 180, 1, 30, 16, 10, 27, 104, 21, 5, 96, 46]
abbrev dktX1_ahead_3 : List UInt8 := dkwX1_ahead_3 ++ dktX1_ahead_4
def dkwX1_ahead_2 : List UInt8 := [21, 5, 28, 162, 0, 14, 25, 4, 182, 1, 77, 132, 5, 1, 167, 255, 242, 25, 4, 27, 182, 1, 21]
abbrev dktX1_ahead_2 : List UInt8 := dkwX1_ahead_2 ++ dktX1_ahead_3
def dkwX1_ahead_1 : List UInt8 := [167, 0, 4, 3, 182, 0, 172, 42, 180, 0, 53, 42, 180, 0, 49, 182, 0, 235, 58, 4, 3, 54, 5]
abbrev dktX1_ahead_1 : List UInt8 := dkwX1_ahead_1 ++ dktX1_ahead_2
def dkwX1_ahead_0 : List UInt8 := [42, 27, 182, 1, 18, 42, 28, 3, 16, 99, 184, 0, 246, 153, 0, 14, 29, 184, 1, 40, 153, 0, 7, 4]
abbrev dktX1_ahead_0 : List UInt8 := dkwX1_ahead_0 ++ dktX1_ahead_1
theorem dksX1_ahead_0 : cX1_ahead.data.toList.drop 0 = dktX1_ahead_0 := by decide +kernel
theorem dksX1_ahead_1 : cX1_ahead.data.toList.drop 24 = dktX1_ahead_1 := dk_seg dksX1_ahead_0 24 rfl rfl
theorem dksX1_ahead_2 : cX1_ahead.data.toList.drop 47 = dktX1_ahead_2 := dk_seg dksX1_ahead_1 23 rfl rfl
theorem dksX1_ahead_3 : cX1_ahead.data.toList.drop 70 = dktX1_ahead_3 := dk_seg dksX1_ahead_2 23 rfl rfl
theorem dksX1_ahead_4 : cX1_ahead.data.toList.drop 94 = dktX1_ahead_4 := dk_seg dksX1_ahead_3 24 rfl rfl
theorem dX1_ahead_0 : decode cX1_ahead 0 = .ok (.aload_n 0, 1) := dk_42 (dk_at dksX1_ahead_0 0 rfl rfl)
theorem dX1_ahead_1 : decode cX1_ahead 1 = .ok (.iload_n 1, 1) := dk_27 (dk_at dksX1_ahead_0 1 rfl rfl)
theorem dX1_ahead_2 : decode cX1_ahead 2 = .ok (.invokevirtual 274, 3) := dk_182 1 18 (dk_at dksX1_ahead_0 2 rfl rfl)
theorem dX1_ahead_5 : decode cX1_ahead 5 = .ok (.aload_n 0, 1) := dk_42 (dk_at dksX1_ahead_0 5 rfl rfl)
theorem dX1_ahead_6 : decode cX1_ahead 6 = .ok (.iload_n 2, 1) := dk_28 (dk_at dksX1_ahead_0 6 rfl rfl)
theorem dX1_ahead_7 : decode cX1_ahead 7 = .ok (.iconst 0, 1) := dk_3 (dk_at dksX1_ahead_0 7 rfl rfl)
theorem dX1_ahead_8 : decode cX1_ahead 8 = .ok (.bipush 99, 2) := dk_16 99 (dk_at dksX1_ahead_0 8 rfl rfl)
theorem dX1_ahead_10 : decode cX1_ahead 10 = .ok (.invokestatic 246, 3) := dk_184 0 246 (dk_at dksX1_ahead_0 10 rfl rfl)
theorem dX1_ahead_13 : decode cX1_ahead 13 = .ok (.ifCond .eq 14, 3) := dk_153 0 14 (dk_at dksX1_ahead_0 13 rfl rfl)
theorem dX1_ahead_16 : decode cX1_ahead 16 = .ok (.iload_n 3, 1) := dk_29 (dk_at dksX1_ahead_0 16 rfl rfl)
theorem dX1_ahead_17 : decode cX1_ahead 17 = .ok (.invokestatic 296, 3) := dk_184 1 40 (dk_at dksX1_ahead_0 17 rfl rfl)
theorem dX1_ahead_20 : decode cX1_ahead 20 = .ok (.ifCond .eq 7, 3) := dk_153 0 7 (dk_at dksX1_ahead_0 20 rfl rfl)
theorem dX1_ahead_23 : decode cX1_ahead 23 = .ok (.iconst 1, 1) := dk_4 (dk_at dksX1_ahead_0 23 rfl rfl)
theorem dX1_ahead_24 : decode cX1_ahead 24 = .ok (.goto 4, 3) := dk_167 0 4 (dk_at dksX1_ahead_1 0 rfl rfl)
theorem dX1_ahead_27 : decode cX1_ahead 27 = .ok (.iconst 0, 1) := dk_3 (dk_at dksX1_ahead_1 3 rfl rfl)
theorem dX1_ahead_28 : decode cX1_ahead 28 = .ok (.invokevirtual 172, 3) := dk_182 0 172 (dk_at dksX1_ahead_1 4 rfl rfl)
theorem dX1_ahead_31 : decode cX1_ahead 31 = .ok (.aload_n 0, 1) := dk_42 (dk_at dksX1_ahead_1 7 rfl rfl)
theorem dX1_ahead_32 : decode cX1_ahead 32 = .ok (.getfield 53, 3) := dk_180 0 53 (dk_at dksX1_ahead_1 8 rfl rfl)
theorem dX1_ahead_35 : decode cX1_ahead 35 = .ok (.aload_n 0, 1) := dk_42 (dk_at dksX1_ahead_1 11 rfl rfl)
theorem dX1_ahead_36 : decode cX1_ahead 36 = .ok (.getfield 49, 3) := dk_180 0 49 (dk_at dksX1_ahead_1 12 rfl rfl)
theorem dX1_ahead_39 : decode cX1_ahead 39 = .ok (.invokevirtual 235, 3) := dk_182 0 235 (dk_at dksX1_ahead_1 15 rfl rfl)
theorem dX1_ahead_42 : decode cX1_ahead 42 = .ok (.astore 4, 2) := dk_58 4 (dk_at dksX1_ahead_1 18 rfl rfl)
theorem dX1_ahead_44 : decode cX1_ahead 44 = .ok (.iconst 0, 1) := dk_3 (dk_at dksX1_ahead_1 20 rfl rfl)
theorem dX1_ahead_45 : decode cX1_ahead 45 = .ok (.istore 5, 2) := dk_54 5 (dk_at dksX1_ahead_1 21 rfl rfl)
theorem dX1_ahead_47 : decode cX1_ahead 47 = .ok (.iload 5, 2) := dk_21 5 (dk_at dksX1_ahead_2 0 rfl rfl)
theorem dX1_ahead_49 : decode cX1_ahead 49 = .ok (.iload_n 2, 1) := dk_28 (dk_at dksX1_ahead_2 2 rfl rfl)
theorem dX1_ahead_50 : decode cX1_ahead 50 = .ok (.if_icmp .ge 14, 3) := dk_162 0 14 (dk_at dksX1_ahead_2 3 rfl rfl)
theorem dX1_ahead_53 : decode cX1_ahead 53 = .ok (.aload 4, 2) := dk_25 4 (dk_at dksX1_ahead_2 6 rfl rfl)
theorem dX1_ahead_55 : decode cX1_ahead 55 = .ok (.invokevirtual 333, 3) := dk_182 1 77 (dk_at dksX1_ahead_2 8 rfl rfl)
theorem dX1_ahead_58 : decode cX1_ahead 58 = .ok (.iinc 5 1, 3) := dk_132 5 1 (dk_at dksX1_ahead_2 11 rfl rfl)
theorem dX1_ahead_61 : decode cX1_ahead 61 = .ok (.goto (-14), 3) := dk_167 255 242 (dk_at dksX1_ahead_2 14 rfl rfl)
theorem dX1_ahead_64 : decode cX1_ahead 64 = .ok (.aload 4, 2) := dk_25 4 (dk_at dksX1_ahead_2 17 rfl rfl)
theorem dX1_ahead_66 : decode cX1_ahead 66 = .ok (.iload_n 1, 1) := dk_27 (dk_at dksX1_ahead_2 19 rfl rfl)
theorem dX1_ahead_67 : decode cX1_ahead 67 = .ok (.invokevirtual 277, 3) := dk_182 1 21 (dk_at dksX1_ahead_2 20 rfl rfl)
theorem dX1_ahead_70 : decode cX1_ahead 70 = .ok (.istore 5, 2) := dk_54 5 (dk_at dksX1_ahead_3 0 rfl rfl)
theorem dX1_ahead_72 : decode cX1_ahead 72 = .ok (.iload_n 3, 1) := dk_29 (dk_at dksX1_ahead_3 2 rfl rfl)
theorem dX1_ahead_73 : decode cX1_ahead 73 = .ok (.ifCond .ne 8, 3) := dk_154 0 8 (dk_at dksX1_ahead_3 3 rfl rfl)
theorem dX1_ahead_76 : decode cX1_ahead 76 = .ok (.iload 5, 2) := dk_21 5 (dk_at dksX1_ahead_3 6 rfl rfl)
theorem dX1_ahead_78 : decode cX1_ahead 78 = .ok (.goto 16, 3) := dk_167 0 16 (dk_at dksX1_ahead_3 8 rfl rfl)
theorem dX1_ahead_81 : decode cX1_ahead 81 = .ok (.aload 4, 2) := dk_25 4 (dk_at dksX1_ahead_3 11 rfl rfl)
theorem dX1_ahead_83 : decode cX1_ahead 83 = .ok (.getfield 286, 3) := dk_180 1 30 (dk_at dksX1_ahead_3 13 rfl rfl)
theorem dX1_ahead_86 : decode cX1_ahead 86 = .ok (.bipush 10, 2) := dk_16 10 (dk_at dksX1_ahead_3 16 rfl rfl)
theorem dX1_ahead_88 : decode cX1_ahead 88 = .ok (.iload_n 1, 1) := dk_27 (dk_at dksX1_ahead_3 18 rfl rfl)
theorem dX1_ahead_89 : decode cX1_ahead 89 = .ok (.imul, 1) := dk_104 (dk_at dksX1_ahead_3 19 rfl rfl)
theorem dX1_ahead_90 : decode cX1_ahead 90 = .ok (.iload 5, 2) := dk_21 5 (dk_at dksX1_ahead_3 20 rfl rfl)
theorem dX1_ahead_92 : decode cX1_ahead 92 = .ok (.iadd, 1) := dk_96 (dk_at dksX1_ahead_3 22 rfl rfl)
theorem dX1_ahead_93 : decode cX1_ahead 93 = .ok (.iaload, 1) := dk_46 (dk_at dksX1_ahead_3 23 rfl rfl)
theorem dX1_ahead_94 : decode cX1_ahead 94 = .ok (.ireturn, 1) := dk_172 (dk_at dksX1_ahead_4 0 rfl rfl)
abbrev cX1_when : ByteArray := prog_1_method_33_code
def yX1_when : MethodName := ⟨RX1, "when", "(II)I"⟩
def dkwX1_when_2 : List UInt8 := [45, 182, 1, 77, 132, 4, 1, 167, 255, 229, 2, 172]
abbrev dktX1_when_2 : List UInt8 := dkwX1_when_2 ++ []
def dkwX1_when_1 : List UInt8 := [78, 3, 54, 4, 21, 4, 17, 0, 200, 163, 0, 25, 45, 27, 182, 1, 21, 28, 160, 0, 6, 21, 4, 172]
abbrev dktX1_when_1 : List UInt8 := dkwX1_when_1 ++ dktX1_when_2
def dkwX1_when_0 : List UInt8 := [42, 27, 182, 1, 18, 42, 28, 184, 1, 36, 182, 0, 172, 42, 180, 0, 53, 42, 180, 0, 49, 182, 0, 235]
abbrev dktX1_when_0 : List UInt8 := dkwX1_when_0 ++ dktX1_when_1
theorem dksX1_when_0 : cX1_when.data.toList.drop 0 = dktX1_when_0 := by decide +kernel
theorem dksX1_when_1 : cX1_when.data.toList.drop 24 = dktX1_when_1 := dk_seg dksX1_when_0 24 rfl rfl
theorem dksX1_when_2 : cX1_when.data.toList.drop 48 = dktX1_when_2 := dk_seg dksX1_when_1 24 rfl rfl
theorem dX1_when_0 : decode cX1_when 0 = .ok (.aload_n 0, 1) := dk_42 (dk_at dksX1_when_0 0 rfl rfl)
theorem dX1_when_1 : decode cX1_when 1 = .ok (.iload_n 1, 1) := dk_27 (dk_at dksX1_when_0 1 rfl rfl)
theorem dX1_when_2 : decode cX1_when 2 = .ok (.invokevirtual 274, 3) := dk_182 1 18 (dk_at dksX1_when_0 2 rfl rfl)
theorem dX1_when_5 : decode cX1_when 5 = .ok (.aload_n 0, 1) := dk_42 (dk_at dksX1_when_0 5 rfl rfl)
theorem dX1_when_6 : decode cX1_when 6 = .ok (.iload_n 2, 1) := dk_28 (dk_at dksX1_when_0 6 rfl rfl)
theorem dX1_when_7 : decode cX1_when 7 = .ok (.invokestatic 292, 3) := dk_184 1 36 (dk_at dksX1_when_0 7 rfl rfl)
theorem dX1_when_10 : decode cX1_when 10 = .ok (.invokevirtual 172, 3) := dk_182 0 172 (dk_at dksX1_when_0 10 rfl rfl)
theorem dX1_when_13 : decode cX1_when 13 = .ok (.aload_n 0, 1) := dk_42 (dk_at dksX1_when_0 13 rfl rfl)
theorem dX1_when_14 : decode cX1_when 14 = .ok (.getfield 53, 3) := dk_180 0 53 (dk_at dksX1_when_0 14 rfl rfl)
theorem dX1_when_17 : decode cX1_when 17 = .ok (.aload_n 0, 1) := dk_42 (dk_at dksX1_when_0 17 rfl rfl)
theorem dX1_when_18 : decode cX1_when 18 = .ok (.getfield 49, 3) := dk_180 0 49 (dk_at dksX1_when_0 18 rfl rfl)
theorem dX1_when_21 : decode cX1_when 21 = .ok (.invokevirtual 235, 3) := dk_182 0 235 (dk_at dksX1_when_0 21 rfl rfl)
theorem dX1_when_24 : decode cX1_when 24 = .ok (.astore_n 3, 1) := dk_78 (dk_at dksX1_when_1 0 rfl rfl)
theorem dX1_when_25 : decode cX1_when 25 = .ok (.iconst 0, 1) := dk_3 (dk_at dksX1_when_1 1 rfl rfl)
theorem dX1_when_26 : decode cX1_when 26 = .ok (.istore 4, 2) := dk_54 4 (dk_at dksX1_when_1 2 rfl rfl)
theorem dX1_when_28 : decode cX1_when 28 = .ok (.iload 4, 2) := dk_21 4 (dk_at dksX1_when_1 4 rfl rfl)
theorem dX1_when_30 : decode cX1_when 30 = .ok (.sipush 200, 3) := dk_17 0 200 (dk_at dksX1_when_1 6 rfl rfl)
theorem dX1_when_33 : decode cX1_when 33 = .ok (.if_icmp .gt 25, 3) := dk_163 0 25 (dk_at dksX1_when_1 9 rfl rfl)
theorem dX1_when_36 : decode cX1_when 36 = .ok (.aload_n 3, 1) := dk_45 (dk_at dksX1_when_1 12 rfl rfl)
theorem dX1_when_37 : decode cX1_when 37 = .ok (.iload_n 1, 1) := dk_27 (dk_at dksX1_when_1 13 rfl rfl)
theorem dX1_when_38 : decode cX1_when 38 = .ok (.invokevirtual 277, 3) := dk_182 1 21 (dk_at dksX1_when_1 14 rfl rfl)
theorem dX1_when_41 : decode cX1_when 41 = .ok (.iload_n 2, 1) := dk_28 (dk_at dksX1_when_1 17 rfl rfl)
theorem dX1_when_42 : decode cX1_when 42 = .ok (.if_icmp .ne 6, 3) := dk_160 0 6 (dk_at dksX1_when_1 18 rfl rfl)
theorem dX1_when_45 : decode cX1_when 45 = .ok (.iload 4, 2) := dk_21 4 (dk_at dksX1_when_1 21 rfl rfl)
theorem dX1_when_47 : decode cX1_when 47 = .ok (.ireturn, 1) := dk_172 (dk_at dksX1_when_1 23 rfl rfl)
theorem dX1_when_48 : decode cX1_when 48 = .ok (.aload_n 3, 1) := dk_45 (dk_at dksX1_when_2 0 rfl rfl)
theorem dX1_when_49 : decode cX1_when 49 = .ok (.invokevirtual 333, 3) := dk_182 1 77 (dk_at dksX1_when_2 1 rfl rfl)
theorem dX1_when_52 : decode cX1_when 52 = .ok (.iinc 4 1, 3) := dk_132 4 1 (dk_at dksX1_when_2 4 rfl rfl)
theorem dX1_when_55 : decode cX1_when 55 = .ok (.goto (-27), 3) := dk_167 255 229 (dk_at dksX1_when_2 7 rfl rfl)
theorem dX1_when_58 : decode cX1_when 58 = .ok (.iconst (-1), 1) := dk_2 (dk_at dksX1_when_2 10 rfl rfl)
theorem dX1_when_59 : decode cX1_when 59 = .ok (.ireturn, 1) := dk_172 (dk_at dksX1_when_2 11 rfl rfl)
abbrev cX1_muffle : ByteArray := prog_1_method_34_code
def yX1_muffle : MethodName := ⟨RX1, "muffle", "(I)I"⟩
def dkwX1_muffle_2 : List UInt8 := [172]
abbrev dktX1_muffle_2 : List UInt8 := dkwX1_muffle_2 ++ []
def dkwX1_muffle_1 : List UInt8 := [159, 0, 17, 42, 180, 0, 49, 27, 28, 182, 1, 80, 154, 0, 5, 28, 172, 132, 2, 1, 167, 255, 220, 2]
abbrev dktX1_muffle_1 : List UInt8 := dkwX1_muffle_1 ++ dktX1_muffle_2
def dkwX1_muffle_0 : List UInt8 := [42, 27, 182, 1, 49, 3, 61, 28, 16, 9, 163, 0, 36, 42, 180, 0, 49, 180, 0, 239, 27, 46, 2]
abbrev dktX1_muffle_0 : List UInt8 := dkwX1_muffle_0 ++ dktX1_muffle_1
theorem dksX1_muffle_0 : cX1_muffle.data.toList.drop 0 = dktX1_muffle_0 := by decide +kernel
theorem dksX1_muffle_1 : cX1_muffle.data.toList.drop 23 = dktX1_muffle_1 := dk_seg dksX1_muffle_0 23 rfl rfl
theorem dksX1_muffle_2 : cX1_muffle.data.toList.drop 47 = dktX1_muffle_2 := dk_seg dksX1_muffle_1 24 rfl rfl
theorem dX1_muffle_0 : decode cX1_muffle 0 = .ok (.aload_n 0, 1) := dk_42 (dk_at dksX1_muffle_0 0 rfl rfl)
theorem dX1_muffle_1 : decode cX1_muffle 1 = .ok (.iload_n 1, 1) := dk_27 (dk_at dksX1_muffle_0 1 rfl rfl)
theorem dX1_muffle_2 : decode cX1_muffle 2 = .ok (.invokevirtual 305, 3) := dk_182 1 49 (dk_at dksX1_muffle_0 2 rfl rfl)
theorem dX1_muffle_5 : decode cX1_muffle 5 = .ok (.iconst 0, 1) := dk_3 (dk_at dksX1_muffle_0 5 rfl rfl)
theorem dX1_muffle_6 : decode cX1_muffle 6 = .ok (.istore_n 2, 1) := dk_61 (dk_at dksX1_muffle_0 6 rfl rfl)
theorem dX1_muffle_7 : decode cX1_muffle 7 = .ok (.iload_n 2, 1) := dk_28 (dk_at dksX1_muffle_0 7 rfl rfl)
theorem dX1_muffle_8 : decode cX1_muffle 8 = .ok (.bipush 9, 2) := dk_16 9 (dk_at dksX1_muffle_0 8 rfl rfl)
theorem dX1_muffle_10 : decode cX1_muffle 10 = .ok (.if_icmp .gt 36, 3) := dk_163 0 36 (dk_at dksX1_muffle_0 10 rfl rfl)
theorem dX1_muffle_13 : decode cX1_muffle 13 = .ok (.aload_n 0, 1) := dk_42 (dk_at dksX1_muffle_0 13 rfl rfl)
theorem dX1_muffle_14 : decode cX1_muffle 14 = .ok (.getfield 49, 3) := dk_180 0 49 (dk_at dksX1_muffle_0 14 rfl rfl)
theorem dX1_muffle_17 : decode cX1_muffle 17 = .ok (.getfield 239, 3) := dk_180 0 239 (dk_at dksX1_muffle_0 17 rfl rfl)
theorem dX1_muffle_20 : decode cX1_muffle 20 = .ok (.iload_n 1, 1) := dk_27 (dk_at dksX1_muffle_0 20 rfl rfl)
theorem dX1_muffle_21 : decode cX1_muffle 21 = .ok (.iaload, 1) := dk_46 (dk_at dksX1_muffle_0 21 rfl rfl)
theorem dX1_muffle_22 : decode cX1_muffle 22 = .ok (.iconst (-1), 1) := dk_2 (dk_at dksX1_muffle_0 22 rfl rfl)
theorem dX1_muffle_23 : decode cX1_muffle 23 = .ok (.if_icmp .eq 17, 3) := dk_159 0 17 (dk_at dksX1_muffle_1 0 rfl rfl)
theorem dX1_muffle_26 : decode cX1_muffle 26 = .ok (.aload_n 0, 1) := dk_42 (dk_at dksX1_muffle_1 3 rfl rfl)
theorem dX1_muffle_27 : decode cX1_muffle 27 = .ok (.getfield 49, 3) := dk_180 0 49 (dk_at dksX1_muffle_1 4 rfl rfl)
theorem dX1_muffle_30 : decode cX1_muffle 30 = .ok (.iload_n 1, 1) := dk_27 (dk_at dksX1_muffle_1 7 rfl rfl)
theorem dX1_muffle_31 : decode cX1_muffle 31 = .ok (.iload_n 2, 1) := dk_28 (dk_at dksX1_muffle_1 8 rfl rfl)
theorem dX1_muffle_32 : decode cX1_muffle 32 = .ok (.invokevirtual 336, 3) := dk_182 1 80 (dk_at dksX1_muffle_1 9 rfl rfl)
theorem dX1_muffle_35 : decode cX1_muffle 35 = .ok (.ifCond .ne 5, 3) := dk_154 0 5 (dk_at dksX1_muffle_1 12 rfl rfl)
theorem dX1_muffle_38 : decode cX1_muffle 38 = .ok (.iload_n 2, 1) := dk_28 (dk_at dksX1_muffle_1 15 rfl rfl)
theorem dX1_muffle_39 : decode cX1_muffle 39 = .ok (.ireturn, 1) := dk_172 (dk_at dksX1_muffle_1 16 rfl rfl)
theorem dX1_muffle_40 : decode cX1_muffle 40 = .ok (.iinc 2 1, 3) := dk_132 2 1 (dk_at dksX1_muffle_1 17 rfl rfl)
theorem dX1_muffle_43 : decode cX1_muffle 43 = .ok (.goto (-36), 3) := dk_167 255 220 (dk_at dksX1_muffle_1 20 rfl rfl)
theorem dX1_muffle_46 : decode cX1_muffle 46 = .ok (.iconst (-1), 1) := dk_2 (dk_at dksX1_muffle_1 23 rfl rfl)
theorem dX1_muffle_47 : decode cX1_muffle 47 = .ok (.ireturn, 1) := dk_172 (dk_at dksX1_muffle_2 0 rfl rfl)
abbrev cX1_placed : ByteArray := prog_1_method_47_code
def yX1_placed : MethodName := ⟨RX1, "placed", "(I)I"⟩
def dkwX1_placed_0 : List UInt8 := [42, 27, 182, 1, 49, 42, 182, 1, 105, 42, 180, 0, 80, 27, 46, 172]
abbrev dktX1_placed_0 : List UInt8 := dkwX1_placed_0 ++ []
theorem dksX1_placed_0 : cX1_placed.data.toList.drop 0 = dktX1_placed_0 := by decide +kernel
theorem dX1_placed_0 : decode cX1_placed 0 = .ok (.aload_n 0, 1) := dk_42 (dk_at dksX1_placed_0 0 rfl rfl)
theorem dX1_placed_1 : decode cX1_placed 1 = .ok (.iload_n 1, 1) := dk_27 (dk_at dksX1_placed_0 1 rfl rfl)
theorem dX1_placed_2 : decode cX1_placed 2 = .ok (.invokevirtual 305, 3) := dk_182 1 49 (dk_at dksX1_placed_0 2 rfl rfl)
theorem dX1_placed_5 : decode cX1_placed 5 = .ok (.aload_n 0, 1) := dk_42 (dk_at dksX1_placed_0 5 rfl rfl)
theorem dX1_placed_6 : decode cX1_placed 6 = .ok (.invokevirtual 361, 3) := dk_182 1 105 (dk_at dksX1_placed_0 6 rfl rfl)
theorem dX1_placed_9 : decode cX1_placed 9 = .ok (.aload_n 0, 1) := dk_42 (dk_at dksX1_placed_0 9 rfl rfl)
theorem dX1_placed_10 : decode cX1_placed 10 = .ok (.getfield 80, 3) := dk_180 0 80 (dk_at dksX1_placed_0 10 rfl rfl)
theorem dX1_placed_13 : decode cX1_placed 13 = .ok (.iload_n 1, 1) := dk_27 (dk_at dksX1_placed_0 13 rfl rfl)
theorem dX1_placed_14 : decode cX1_placed 14 = .ok (.iaload, 1) := dk_46 (dk_at dksX1_placed_0 14 rfl rfl)
theorem dX1_placed_15 : decode cX1_placed 15 = .ok (.ireturn, 1) := dk_172 (dk_at dksX1_placed_0 15 rfl rfl)
abbrev cX1_from : ByteArray := prog_1_method_50_code
def yX1_from : MethodName := ⟨RX1, "from", "(II)I"⟩
def dkwX1_from_3 : List UInt8 := [96, 54, 4, 132, 5, 1, 167, 255, 206, 28, 154, 0, 7, 29, 167, 0, 5, 21, 4, 172]
abbrev dktX1_from_3 : List UInt8 := dkwX1_from_3 ++ []
def dkwX1_from_2 : List UInt8 := [132, 3, 1, 21, 4, 2, 160, 0, 21, 16, 100, 21, 5, 16, 100, 108, 4, 96, 104, 21, 5, 16, 100, 112]
abbrev dktX1_from_2 : List UInt8 := dkwX1_from_2 ++ dktX1_from_3
def dkwX1_from_1 : List UInt8 := [54, 5, 21, 5, 17, 3, 132, 162, 0, 48, 42, 21, 5, 182, 1, 111, 154, 0, 6, 167, 0, 30]
abbrev dktX1_from_1 : List UInt8 := dkwX1_from_1 ++ dktX1_from_2
def dkwX1_from_0 : List UInt8 := [42, 27, 182, 1, 18, 42, 28, 184, 1, 40, 182, 0, 172, 42, 27, 182, 1, 108, 3, 62, 2, 54, 4, 3]
abbrev dktX1_from_0 : List UInt8 := dkwX1_from_0 ++ dktX1_from_1
theorem dksX1_from_0 : cX1_from.data.toList.drop 0 = dktX1_from_0 := by decide +kernel
theorem dksX1_from_1 : cX1_from.data.toList.drop 24 = dktX1_from_1 := dk_seg dksX1_from_0 24 rfl rfl
theorem dksX1_from_2 : cX1_from.data.toList.drop 46 = dktX1_from_2 := dk_seg dksX1_from_1 22 rfl rfl
theorem dksX1_from_3 : cX1_from.data.toList.drop 70 = dktX1_from_3 := dk_seg dksX1_from_2 24 rfl rfl
theorem dX1_from_0 : decode cX1_from 0 = .ok (.aload_n 0, 1) := dk_42 (dk_at dksX1_from_0 0 rfl rfl)
theorem dX1_from_1 : decode cX1_from 1 = .ok (.iload_n 1, 1) := dk_27 (dk_at dksX1_from_0 1 rfl rfl)
theorem dX1_from_2 : decode cX1_from 2 = .ok (.invokevirtual 274, 3) := dk_182 1 18 (dk_at dksX1_from_0 2 rfl rfl)
theorem dX1_from_5 : decode cX1_from 5 = .ok (.aload_n 0, 1) := dk_42 (dk_at dksX1_from_0 5 rfl rfl)
theorem dX1_from_6 : decode cX1_from 6 = .ok (.iload_n 2, 1) := dk_28 (dk_at dksX1_from_0 6 rfl rfl)
theorem dX1_from_7 : decode cX1_from 7 = .ok (.invokestatic 296, 3) := dk_184 1 40 (dk_at dksX1_from_0 7 rfl rfl)
theorem dX1_from_10 : decode cX1_from 10 = .ok (.invokevirtual 172, 3) := dk_182 0 172 (dk_at dksX1_from_0 10 rfl rfl)
theorem dX1_from_13 : decode cX1_from 13 = .ok (.aload_n 0, 1) := dk_42 (dk_at dksX1_from_0 13 rfl rfl)
theorem dX1_from_14 : decode cX1_from 14 = .ok (.iload_n 1, 1) := dk_27 (dk_at dksX1_from_0 14 rfl rfl)
theorem dX1_from_15 : decode cX1_from 15 = .ok (.invokevirtual 364, 3) := dk_182 1 108 (dk_at dksX1_from_0 15 rfl rfl)
theorem dX1_from_18 : decode cX1_from 18 = .ok (.iconst 0, 1) := dk_3 (dk_at dksX1_from_0 18 rfl rfl)
theorem dX1_from_19 : decode cX1_from 19 = .ok (.istore_n 3, 1) := dk_62 (dk_at dksX1_from_0 19 rfl rfl)
theorem dX1_from_20 : decode cX1_from 20 = .ok (.iconst (-1), 1) := dk_2 (dk_at dksX1_from_0 20 rfl rfl)
theorem dX1_from_21 : decode cX1_from 21 = .ok (.istore 4, 2) := dk_54 4 (dk_at dksX1_from_0 21 rfl rfl)
theorem dX1_from_23 : decode cX1_from 23 = .ok (.iconst 0, 1) := dk_3 (dk_at dksX1_from_0 23 rfl rfl)
theorem dX1_from_24 : decode cX1_from 24 = .ok (.istore 5, 2) := dk_54 5 (dk_at dksX1_from_1 0 rfl rfl)
theorem dX1_from_26 : decode cX1_from 26 = .ok (.iload 5, 2) := dk_21 5 (dk_at dksX1_from_1 2 rfl rfl)
theorem dX1_from_28 : decode cX1_from 28 = .ok (.sipush 900, 3) := dk_17 3 132 (dk_at dksX1_from_1 4 rfl rfl)
theorem dX1_from_31 : decode cX1_from 31 = .ok (.if_icmp .ge 48, 3) := dk_162 0 48 (dk_at dksX1_from_1 7 rfl rfl)
theorem dX1_from_34 : decode cX1_from 34 = .ok (.aload_n 0, 1) := dk_42 (dk_at dksX1_from_1 10 rfl rfl)
theorem dX1_from_35 : decode cX1_from 35 = .ok (.iload 5, 2) := dk_21 5 (dk_at dksX1_from_1 11 rfl rfl)
theorem dX1_from_37 : decode cX1_from 37 = .ok (.invokevirtual 367, 3) := dk_182 1 111 (dk_at dksX1_from_1 13 rfl rfl)
theorem dX1_from_40 : decode cX1_from 40 = .ok (.ifCond .ne 6, 3) := dk_154 0 6 (dk_at dksX1_from_1 16 rfl rfl)
theorem dX1_from_43 : decode cX1_from 43 = .ok (.goto 30, 3) := dk_167 0 30 (dk_at dksX1_from_1 19 rfl rfl)
theorem dX1_from_46 : decode cX1_from 46 = .ok (.iinc 3 1, 3) := dk_132 3 1 (dk_at dksX1_from_2 0 rfl rfl)
theorem dX1_from_49 : decode cX1_from 49 = .ok (.iload 4, 2) := dk_21 4 (dk_at dksX1_from_2 3 rfl rfl)
theorem dX1_from_51 : decode cX1_from 51 = .ok (.iconst (-1), 1) := dk_2 (dk_at dksX1_from_2 5 rfl rfl)
theorem dX1_from_52 : decode cX1_from 52 = .ok (.if_icmp .ne 21, 3) := dk_160 0 21 (dk_at dksX1_from_2 6 rfl rfl)
theorem dX1_from_55 : decode cX1_from 55 = .ok (.bipush 100, 2) := dk_16 100 (dk_at dksX1_from_2 9 rfl rfl)
theorem dX1_from_57 : decode cX1_from 57 = .ok (.iload 5, 2) := dk_21 5 (dk_at dksX1_from_2 11 rfl rfl)
theorem dX1_from_59 : decode cX1_from 59 = .ok (.bipush 100, 2) := dk_16 100 (dk_at dksX1_from_2 13 rfl rfl)
theorem dX1_from_61 : decode cX1_from 61 = .ok (.idiv, 1) := dk_108 (dk_at dksX1_from_2 15 rfl rfl)
theorem dX1_from_62 : decode cX1_from 62 = .ok (.iconst 1, 1) := dk_4 (dk_at dksX1_from_2 16 rfl rfl)
theorem dX1_from_63 : decode cX1_from 63 = .ok (.iadd, 1) := dk_96 (dk_at dksX1_from_2 17 rfl rfl)
theorem dX1_from_64 : decode cX1_from 64 = .ok (.imul, 1) := dk_104 (dk_at dksX1_from_2 18 rfl rfl)
theorem dX1_from_65 : decode cX1_from 65 = .ok (.iload 5, 2) := dk_21 5 (dk_at dksX1_from_2 19 rfl rfl)
theorem dX1_from_67 : decode cX1_from 67 = .ok (.bipush 100, 2) := dk_16 100 (dk_at dksX1_from_2 21 rfl rfl)
theorem dX1_from_69 : decode cX1_from 69 = .ok (.irem, 1) := dk_112 (dk_at dksX1_from_2 23 rfl rfl)
theorem dX1_from_70 : decode cX1_from 70 = .ok (.iadd, 1) := dk_96 (dk_at dksX1_from_3 0 rfl rfl)
theorem dX1_from_71 : decode cX1_from 71 = .ok (.istore 4, 2) := dk_54 4 (dk_at dksX1_from_3 1 rfl rfl)
theorem dX1_from_73 : decode cX1_from 73 = .ok (.iinc 5 1, 3) := dk_132 5 1 (dk_at dksX1_from_3 3 rfl rfl)
theorem dX1_from_76 : decode cX1_from 76 = .ok (.goto (-50), 3) := dk_167 255 206 (dk_at dksX1_from_3 6 rfl rfl)
theorem dX1_from_79 : decode cX1_from 79 = .ok (.iload_n 2, 1) := dk_28 (dk_at dksX1_from_3 9 rfl rfl)
theorem dX1_from_80 : decode cX1_from 80 = .ok (.ifCond .ne 7, 3) := dk_154 0 7 (dk_at dksX1_from_3 10 rfl rfl)
theorem dX1_from_83 : decode cX1_from 83 = .ok (.iload_n 3, 1) := dk_29 (dk_at dksX1_from_3 13 rfl rfl)
theorem dX1_from_84 : decode cX1_from 84 = .ok (.goto 5, 3) := dk_167 0 5 (dk_at dksX1_from_3 14 rfl rfl)
theorem dX1_from_87 : decode cX1_from 87 = .ok (.iload 4, 2) := dk_21 4 (dk_at dksX1_from_3 17 rfl rfl)
theorem dX1_from_89 : decode cX1_from 89 = .ok (.ireturn, 1) := dk_172 (dk_at dksX1_from_3 19 rfl rfl)
abbrev cX1_layFrom : ByteArray := prog_1_method_48_code
def yX1_layFrom : MethodName := ⟨RX1, "layFrom", "(I)V"⟩
def dkwX1_layFrom_3 : List UInt8 := [132, 2, 1, 167, 255, 185, 177]
abbrev dktX1_layFrom_3 : List UInt8 := dkwX1_layFrom_3 ++ []
def dkwX1_layFrom_2 : List UInt8 := [21, 4, 29, 3, 3, 27, 21, 4, 182, 1, 73, 96, 184, 0, 134, 62, 132, 4, 1, 167, 255, 206]
abbrev dktX1_layFrom_2 : List UInt8 := dkwX1_layFrom_2 ++ dktX1_layFrom_3
def dkwX1_layFrom_1 : List UInt8 := [42, 180, 0, 84, 16, 61, 28, 104, 21, 4, 96, 29, 79, 16, 99, 29, 42, 28, 16, 100, 108, 4, 96, 3]
abbrev dktX1_layFrom_1 : List UInt8 := dkwX1_layFrom_1 ++ dktX1_layFrom_2
def dkwX1_layFrom_0 : List UInt8 := [3, 61, 28, 17, 3, 132, 162, 0, 70, 28, 16, 100, 112, 62, 3, 54, 4, 21, 4, 16, 61, 162, 0, 49]
abbrev dktX1_layFrom_0 : List UInt8 := dkwX1_layFrom_0 ++ dktX1_layFrom_1
theorem dksX1_layFrom_0 : cX1_layFrom.data.toList.drop 0 = dktX1_layFrom_0 := by decide +kernel
theorem dksX1_layFrom_1 : cX1_layFrom.data.toList.drop 24 = dktX1_layFrom_1 := dk_seg dksX1_layFrom_0 24 rfl rfl
theorem dksX1_layFrom_2 : cX1_layFrom.data.toList.drop 48 = dktX1_layFrom_2 := dk_seg dksX1_layFrom_1 24 rfl rfl
theorem dksX1_layFrom_3 : cX1_layFrom.data.toList.drop 70 = dktX1_layFrom_3 := dk_seg dksX1_layFrom_2 22 rfl rfl
theorem dX1_layFrom_0 : decode cX1_layFrom 0 = .ok (.iconst 0, 1) := dk_3 (dk_at dksX1_layFrom_0 0 rfl rfl)
theorem dX1_layFrom_1 : decode cX1_layFrom 1 = .ok (.istore_n 2, 1) := dk_61 (dk_at dksX1_layFrom_0 1 rfl rfl)
theorem dX1_layFrom_2 : decode cX1_layFrom 2 = .ok (.iload_n 2, 1) := dk_28 (dk_at dksX1_layFrom_0 2 rfl rfl)
theorem dX1_layFrom_3 : decode cX1_layFrom 3 = .ok (.sipush 900, 3) := dk_17 3 132 (dk_at dksX1_layFrom_0 3 rfl rfl)
theorem dX1_layFrom_6 : decode cX1_layFrom 6 = .ok (.if_icmp .ge 70, 3) := dk_162 0 70 (dk_at dksX1_layFrom_0 6 rfl rfl)
theorem dX1_layFrom_9 : decode cX1_layFrom 9 = .ok (.iload_n 2, 1) := dk_28 (dk_at dksX1_layFrom_0 9 rfl rfl)
theorem dX1_layFrom_10 : decode cX1_layFrom 10 = .ok (.bipush 100, 2) := dk_16 100 (dk_at dksX1_layFrom_0 10 rfl rfl)
theorem dX1_layFrom_12 : decode cX1_layFrom 12 = .ok (.irem, 1) := dk_112 (dk_at dksX1_layFrom_0 12 rfl rfl)
theorem dX1_layFrom_13 : decode cX1_layFrom 13 = .ok (.istore_n 3, 1) := dk_62 (dk_at dksX1_layFrom_0 13 rfl rfl)
theorem dX1_layFrom_14 : decode cX1_layFrom 14 = .ok (.iconst 0, 1) := dk_3 (dk_at dksX1_layFrom_0 14 rfl rfl)
theorem dX1_layFrom_15 : decode cX1_layFrom 15 = .ok (.istore 4, 2) := dk_54 4 (dk_at dksX1_layFrom_0 15 rfl rfl)
theorem dX1_layFrom_17 : decode cX1_layFrom 17 = .ok (.iload 4, 2) := dk_21 4 (dk_at dksX1_layFrom_0 17 rfl rfl)
theorem dX1_layFrom_19 : decode cX1_layFrom 19 = .ok (.bipush 61, 2) := dk_16 61 (dk_at dksX1_layFrom_0 19 rfl rfl)
theorem dX1_layFrom_21 : decode cX1_layFrom 21 = .ok (.if_icmp .ge 49, 3) := dk_162 0 49 (dk_at dksX1_layFrom_0 21 rfl rfl)
theorem dX1_layFrom_24 : decode cX1_layFrom 24 = .ok (.aload_n 0, 1) := dk_42 (dk_at dksX1_layFrom_1 0 rfl rfl)
theorem dX1_layFrom_25 : decode cX1_layFrom 25 = .ok (.getfield 84, 3) := dk_180 0 84 (dk_at dksX1_layFrom_1 1 rfl rfl)
theorem dX1_layFrom_28 : decode cX1_layFrom 28 = .ok (.bipush 61, 2) := dk_16 61 (dk_at dksX1_layFrom_1 4 rfl rfl)
theorem dX1_layFrom_30 : decode cX1_layFrom 30 = .ok (.iload_n 2, 1) := dk_28 (dk_at dksX1_layFrom_1 6 rfl rfl)
theorem dX1_layFrom_31 : decode cX1_layFrom 31 = .ok (.imul, 1) := dk_104 (dk_at dksX1_layFrom_1 7 rfl rfl)
theorem dX1_layFrom_32 : decode cX1_layFrom 32 = .ok (.iload 4, 2) := dk_21 4 (dk_at dksX1_layFrom_1 8 rfl rfl)
theorem dX1_layFrom_34 : decode cX1_layFrom 34 = .ok (.iadd, 1) := dk_96 (dk_at dksX1_layFrom_1 10 rfl rfl)
theorem dX1_layFrom_35 : decode cX1_layFrom 35 = .ok (.iload_n 3, 1) := dk_29 (dk_at dksX1_layFrom_1 11 rfl rfl)
theorem dX1_layFrom_36 : decode cX1_layFrom 36 = .ok (.iastore, 1) := dk_79 (dk_at dksX1_layFrom_1 12 rfl rfl)
theorem dX1_layFrom_37 : decode cX1_layFrom 37 = .ok (.bipush 99, 2) := dk_16 99 (dk_at dksX1_layFrom_1 13 rfl rfl)
theorem dX1_layFrom_39 : decode cX1_layFrom 39 = .ok (.iload_n 3, 1) := dk_29 (dk_at dksX1_layFrom_1 15 rfl rfl)
theorem dX1_layFrom_40 : decode cX1_layFrom 40 = .ok (.aload_n 0, 1) := dk_42 (dk_at dksX1_layFrom_1 16 rfl rfl)
theorem dX1_layFrom_41 : decode cX1_layFrom 41 = .ok (.iload_n 2, 1) := dk_28 (dk_at dksX1_layFrom_1 17 rfl rfl)
theorem dX1_layFrom_42 : decode cX1_layFrom 42 = .ok (.bipush 100, 2) := dk_16 100 (dk_at dksX1_layFrom_1 18 rfl rfl)
theorem dX1_layFrom_44 : decode cX1_layFrom 44 = .ok (.idiv, 1) := dk_108 (dk_at dksX1_layFrom_1 20 rfl rfl)
theorem dX1_layFrom_45 : decode cX1_layFrom 45 = .ok (.iconst 1, 1) := dk_4 (dk_at dksX1_layFrom_1 21 rfl rfl)
theorem dX1_layFrom_46 : decode cX1_layFrom 46 = .ok (.iadd, 1) := dk_96 (dk_at dksX1_layFrom_1 22 rfl rfl)
theorem dX1_layFrom_47 : decode cX1_layFrom 47 = .ok (.iconst 0, 1) := dk_3 (dk_at dksX1_layFrom_1 23 rfl rfl)
theorem dX1_layFrom_48 : decode cX1_layFrom 48 = .ok (.iload 4, 2) := dk_21 4 (dk_at dksX1_layFrom_2 0 rfl rfl)
theorem dX1_layFrom_50 : decode cX1_layFrom 50 = .ok (.iload_n 3, 1) := dk_29 (dk_at dksX1_layFrom_2 2 rfl rfl)
theorem dX1_layFrom_51 : decode cX1_layFrom 51 = .ok (.iconst 0, 1) := dk_3 (dk_at dksX1_layFrom_2 3 rfl rfl)
theorem dX1_layFrom_52 : decode cX1_layFrom 52 = .ok (.iconst 0, 1) := dk_3 (dk_at dksX1_layFrom_2 4 rfl rfl)
theorem dX1_layFrom_53 : decode cX1_layFrom 53 = .ok (.iload_n 1, 1) := dk_27 (dk_at dksX1_layFrom_2 5 rfl rfl)
theorem dX1_layFrom_54 : decode cX1_layFrom 54 = .ok (.iload 4, 2) := dk_21 4 (dk_at dksX1_layFrom_2 6 rfl rfl)
theorem dX1_layFrom_56 : decode cX1_layFrom 56 = .ok (.invokevirtual 329, 3) := dk_182 1 73 (dk_at dksX1_layFrom_2 8 rfl rfl)
theorem dX1_layFrom_59 : decode cX1_layFrom 59 = .ok (.iadd, 1) := dk_96 (dk_at dksX1_layFrom_2 11 rfl rfl)
theorem dX1_layFrom_60 : decode cX1_layFrom 60 = .ok (.invokestatic 134, 3) := dk_184 0 134 (dk_at dksX1_layFrom_2 12 rfl rfl)
theorem dX1_layFrom_63 : decode cX1_layFrom 63 = .ok (.istore_n 3, 1) := dk_62 (dk_at dksX1_layFrom_2 15 rfl rfl)
theorem dX1_layFrom_64 : decode cX1_layFrom 64 = .ok (.iinc 4 1, 3) := dk_132 4 1 (dk_at dksX1_layFrom_2 16 rfl rfl)
theorem dX1_layFrom_67 : decode cX1_layFrom 67 = .ok (.goto (-50), 3) := dk_167 255 206 (dk_at dksX1_layFrom_2 19 rfl rfl)
theorem dX1_layFrom_70 : decode cX1_layFrom 70 = .ok (.iinc 2 1, 3) := dk_132 2 1 (dk_at dksX1_layFrom_3 0 rfl rfl)
theorem dX1_layFrom_73 : decode cX1_layFrom 73 = .ok (.goto (-71), 3) := dk_167 255 185 (dk_at dksX1_layFrom_3 3 rfl rfl)
theorem dX1_layFrom_76 : decode cX1_layFrom 76 = .ok (.return_, 1) := dk_177 (dk_at dksX1_layFrom_3 6 rfl rfl)
abbrev cX1_isFit : ByteArray := prog_1_method_49_code
def yX1_isFit : MethodName := ⟨RX1, "isFit", "(I)Z"⟩
def dkwX1_isFit_1 : List UInt8 := [27, 104, 28, 96, 46, 42, 180, 0, 38, 28, 46, 159, 0, 5, 3, 172, 132, 2, 1, 167, 255, 215, 4, 172]
abbrev dktX1_isFit_1 : List UInt8 := dkwX1_isFit_1 ++ []
def dkwX1_isFit_0 : List UInt8 := [3, 61, 28, 16, 61, 162, 0, 41, 42, 180, 0, 38, 28, 46, 2, 159, 0, 25, 42, 180, 0, 84, 16, 61]
abbrev dktX1_isFit_0 : List UInt8 := dkwX1_isFit_0 ++ dktX1_isFit_1
theorem dksX1_isFit_0 : cX1_isFit.data.toList.drop 0 = dktX1_isFit_0 := by decide +kernel
theorem dksX1_isFit_1 : cX1_isFit.data.toList.drop 24 = dktX1_isFit_1 := dk_seg dksX1_isFit_0 24 rfl rfl
theorem dX1_isFit_0 : decode cX1_isFit 0 = .ok (.iconst 0, 1) := dk_3 (dk_at dksX1_isFit_0 0 rfl rfl)
theorem dX1_isFit_1 : decode cX1_isFit 1 = .ok (.istore_n 2, 1) := dk_61 (dk_at dksX1_isFit_0 1 rfl rfl)
theorem dX1_isFit_2 : decode cX1_isFit 2 = .ok (.iload_n 2, 1) := dk_28 (dk_at dksX1_isFit_0 2 rfl rfl)
theorem dX1_isFit_3 : decode cX1_isFit 3 = .ok (.bipush 61, 2) := dk_16 61 (dk_at dksX1_isFit_0 3 rfl rfl)
theorem dX1_isFit_5 : decode cX1_isFit 5 = .ok (.if_icmp .ge 41, 3) := dk_162 0 41 (dk_at dksX1_isFit_0 5 rfl rfl)
theorem dX1_isFit_8 : decode cX1_isFit 8 = .ok (.aload_n 0, 1) := dk_42 (dk_at dksX1_isFit_0 8 rfl rfl)
theorem dX1_isFit_9 : decode cX1_isFit 9 = .ok (.getfield 38, 3) := dk_180 0 38 (dk_at dksX1_isFit_0 9 rfl rfl)
theorem dX1_isFit_12 : decode cX1_isFit 12 = .ok (.iload_n 2, 1) := dk_28 (dk_at dksX1_isFit_0 12 rfl rfl)
theorem dX1_isFit_13 : decode cX1_isFit 13 = .ok (.iaload, 1) := dk_46 (dk_at dksX1_isFit_0 13 rfl rfl)
theorem dX1_isFit_14 : decode cX1_isFit 14 = .ok (.iconst (-1), 1) := dk_2 (dk_at dksX1_isFit_0 14 rfl rfl)
theorem dX1_isFit_15 : decode cX1_isFit 15 = .ok (.if_icmp .eq 25, 3) := dk_159 0 25 (dk_at dksX1_isFit_0 15 rfl rfl)
theorem dX1_isFit_18 : decode cX1_isFit 18 = .ok (.aload_n 0, 1) := dk_42 (dk_at dksX1_isFit_0 18 rfl rfl)
theorem dX1_isFit_19 : decode cX1_isFit 19 = .ok (.getfield 84, 3) := dk_180 0 84 (dk_at dksX1_isFit_0 19 rfl rfl)
theorem dX1_isFit_22 : decode cX1_isFit 22 = .ok (.bipush 61, 2) := dk_16 61 (dk_at dksX1_isFit_0 22 rfl rfl)
theorem dX1_isFit_24 : decode cX1_isFit 24 = .ok (.iload_n 1, 1) := dk_27 (dk_at dksX1_isFit_1 0 rfl rfl)
theorem dX1_isFit_25 : decode cX1_isFit 25 = .ok (.imul, 1) := dk_104 (dk_at dksX1_isFit_1 1 rfl rfl)
theorem dX1_isFit_26 : decode cX1_isFit 26 = .ok (.iload_n 2, 1) := dk_28 (dk_at dksX1_isFit_1 2 rfl rfl)
theorem dX1_isFit_27 : decode cX1_isFit 27 = .ok (.iadd, 1) := dk_96 (dk_at dksX1_isFit_1 3 rfl rfl)
theorem dX1_isFit_28 : decode cX1_isFit 28 = .ok (.iaload, 1) := dk_46 (dk_at dksX1_isFit_1 4 rfl rfl)
theorem dX1_isFit_29 : decode cX1_isFit 29 = .ok (.aload_n 0, 1) := dk_42 (dk_at dksX1_isFit_1 5 rfl rfl)
theorem dX1_isFit_30 : decode cX1_isFit 30 = .ok (.getfield 38, 3) := dk_180 0 38 (dk_at dksX1_isFit_1 6 rfl rfl)
theorem dX1_isFit_33 : decode cX1_isFit 33 = .ok (.iload_n 2, 1) := dk_28 (dk_at dksX1_isFit_1 9 rfl rfl)
theorem dX1_isFit_34 : decode cX1_isFit 34 = .ok (.iaload, 1) := dk_46 (dk_at dksX1_isFit_1 10 rfl rfl)
theorem dX1_isFit_35 : decode cX1_isFit 35 = .ok (.if_icmp .eq 5, 3) := dk_159 0 5 (dk_at dksX1_isFit_1 11 rfl rfl)
theorem dX1_isFit_38 : decode cX1_isFit 38 = .ok (.iconst 0, 1) := dk_3 (dk_at dksX1_isFit_1 14 rfl rfl)
theorem dX1_isFit_39 : decode cX1_isFit 39 = .ok (.ireturn, 1) := dk_172 (dk_at dksX1_isFit_1 15 rfl rfl)
theorem dX1_isFit_40 : decode cX1_isFit 40 = .ok (.iinc 2 1, 3) := dk_132 2 1 (dk_at dksX1_isFit_1 16 rfl rfl)
theorem dX1_isFit_43 : decode cX1_isFit 43 = .ok (.goto (-41), 3) := dk_167 255 215 (dk_at dksX1_isFit_1 19 rfl rfl)
theorem dX1_isFit_46 : decode cX1_isFit 46 = .ok (.iconst 1, 1) := dk_4 (dk_at dksX1_isFit_1 22 rfl rfl)
theorem dX1_isFit_47 : decode cX1_isFit 47 = .ok (.ireturn, 1) := dk_172 (dk_at dksX1_isFit_1 23 rfl rfl)
abbrev cX1_look : ByteArray := prog_1_method_52_code
def yX1_look : MethodName := ⟨RX1, "look", "(II)I"⟩
def dkwX1_look_5 : List UInt8 := [21, 4, 172]
abbrev dktX1_look_5 : List UInt8 := dkwX1_look_5 ++ []
def dkwX1_look_4 : List UInt8 := [167, 0, 10, 21, 5, 62, 21, 6, 54, 4, 132, 5, 1, 167, 255, 202, 28, 154, 0, 7, 29, 167, 0, 5]
abbrev dktX1_look_4 : List UInt8 := dkwX1_look_4 ++ dktX1_look_5
def dkwX1_look_3 : List UInt8 := [167, 0, 33, 42, 21, 5, 182, 1, 114, 54, 6, 29, 2, 159, 0, 13, 21, 6, 21, 4, 161, 0, 6]
abbrev dktX1_look_3 : List UInt8 := dkwX1_look_3 ++ dktX1_look_4
def dkwX1_look_2 : List UInt8 := [54, 4, 3, 54, 5, 21, 5, 16, 61, 162, 0, 53, 42, 180, 0, 38, 21, 5, 46, 2, 159, 0, 6]
abbrev dktX1_look_2 : List UInt8 := dkwX1_look_2 ++ dktX1_look_3
def dkwX1_look_1 : List UInt8 := [162, 0, 20, 42, 180, 0, 90, 29, 42, 29, 182, 1, 111, 84, 132, 3, 1, 167, 255, 235, 2, 62, 2]
abbrev dktX1_look_1 : List UInt8 := dkwX1_look_1 ++ dktX1_look_2
def dkwX1_look_0 : List UInt8 := [42, 27, 182, 1, 18, 42, 28, 184, 1, 40, 182, 0, 172, 42, 27, 182, 1, 108, 3, 62, 29, 17, 3, 132]
abbrev dktX1_look_0 : List UInt8 := dkwX1_look_0 ++ dktX1_look_1
theorem dksX1_look_0 : cX1_look.data.toList.drop 0 = dktX1_look_0 := by decide +kernel
theorem dksX1_look_1 : cX1_look.data.toList.drop 24 = dktX1_look_1 := dk_seg dksX1_look_0 24 rfl rfl
theorem dksX1_look_2 : cX1_look.data.toList.drop 47 = dktX1_look_2 := dk_seg dksX1_look_1 23 rfl rfl
theorem dksX1_look_3 : cX1_look.data.toList.drop 70 = dktX1_look_3 := dk_seg dksX1_look_2 23 rfl rfl
theorem dksX1_look_4 : cX1_look.data.toList.drop 93 = dktX1_look_4 := dk_seg dksX1_look_3 23 rfl rfl
theorem dksX1_look_5 : cX1_look.data.toList.drop 117 = dktX1_look_5 := dk_seg dksX1_look_4 24 rfl rfl
theorem dX1_look_0 : decode cX1_look 0 = .ok (.aload_n 0, 1) := dk_42 (dk_at dksX1_look_0 0 rfl rfl)
theorem dX1_look_1 : decode cX1_look 1 = .ok (.iload_n 1, 1) := dk_27 (dk_at dksX1_look_0 1 rfl rfl)
theorem dX1_look_2 : decode cX1_look 2 = .ok (.invokevirtual 274, 3) := dk_182 1 18 (dk_at dksX1_look_0 2 rfl rfl)
theorem dX1_look_5 : decode cX1_look 5 = .ok (.aload_n 0, 1) := dk_42 (dk_at dksX1_look_0 5 rfl rfl)
theorem dX1_look_6 : decode cX1_look 6 = .ok (.iload_n 2, 1) := dk_28 (dk_at dksX1_look_0 6 rfl rfl)
theorem dX1_look_7 : decode cX1_look 7 = .ok (.invokestatic 296, 3) := dk_184 1 40 (dk_at dksX1_look_0 7 rfl rfl)
theorem dX1_look_10 : decode cX1_look 10 = .ok (.invokevirtual 172, 3) := dk_182 0 172 (dk_at dksX1_look_0 10 rfl rfl)
theorem dX1_look_13 : decode cX1_look 13 = .ok (.aload_n 0, 1) := dk_42 (dk_at dksX1_look_0 13 rfl rfl)
theorem dX1_look_14 : decode cX1_look 14 = .ok (.iload_n 1, 1) := dk_27 (dk_at dksX1_look_0 14 rfl rfl)
theorem dX1_look_15 : decode cX1_look 15 = .ok (.invokevirtual 364, 3) := dk_182 1 108 (dk_at dksX1_look_0 15 rfl rfl)
theorem dX1_look_18 : decode cX1_look 18 = .ok (.iconst 0, 1) := dk_3 (dk_at dksX1_look_0 18 rfl rfl)
theorem dX1_look_19 : decode cX1_look 19 = .ok (.istore_n 3, 1) := dk_62 (dk_at dksX1_look_0 19 rfl rfl)
theorem dX1_look_20 : decode cX1_look 20 = .ok (.iload_n 3, 1) := dk_29 (dk_at dksX1_look_0 20 rfl rfl)
theorem dX1_look_21 : decode cX1_look 21 = .ok (.sipush 900, 3) := dk_17 3 132 (dk_at dksX1_look_0 21 rfl rfl)
theorem dX1_look_24 : decode cX1_look 24 = .ok (.if_icmp .ge 20, 3) := dk_162 0 20 (dk_at dksX1_look_1 0 rfl rfl)
theorem dX1_look_27 : decode cX1_look 27 = .ok (.aload_n 0, 1) := dk_42 (dk_at dksX1_look_1 3 rfl rfl)
theorem dX1_look_28 : decode cX1_look 28 = .ok (.getfield 90, 3) := dk_180 0 90 (dk_at dksX1_look_1 4 rfl rfl)
theorem dX1_look_31 : decode cX1_look 31 = .ok (.iload_n 3, 1) := dk_29 (dk_at dksX1_look_1 7 rfl rfl)
theorem dX1_look_32 : decode cX1_look 32 = .ok (.aload_n 0, 1) := dk_42 (dk_at dksX1_look_1 8 rfl rfl)
theorem dX1_look_33 : decode cX1_look 33 = .ok (.iload_n 3, 1) := dk_29 (dk_at dksX1_look_1 9 rfl rfl)
theorem dX1_look_34 : decode cX1_look 34 = .ok (.invokevirtual 367, 3) := dk_182 1 111 (dk_at dksX1_look_1 10 rfl rfl)
theorem dX1_look_37 : decode cX1_look 37 = .ok (.bastore, 1) := dk_84 (dk_at dksX1_look_1 13 rfl rfl)
theorem dX1_look_38 : decode cX1_look 38 = .ok (.iinc 3 1, 3) := dk_132 3 1 (dk_at dksX1_look_1 14 rfl rfl)
theorem dX1_look_41 : decode cX1_look 41 = .ok (.goto (-21), 3) := dk_167 255 235 (dk_at dksX1_look_1 17 rfl rfl)
theorem dX1_look_44 : decode cX1_look 44 = .ok (.iconst (-1), 1) := dk_2 (dk_at dksX1_look_1 20 rfl rfl)
theorem dX1_look_45 : decode cX1_look 45 = .ok (.istore_n 3, 1) := dk_62 (dk_at dksX1_look_1 21 rfl rfl)
theorem dX1_look_46 : decode cX1_look 46 = .ok (.iconst (-1), 1) := dk_2 (dk_at dksX1_look_1 22 rfl rfl)
theorem dX1_look_47 : decode cX1_look 47 = .ok (.istore 4, 2) := dk_54 4 (dk_at dksX1_look_2 0 rfl rfl)
theorem dX1_look_49 : decode cX1_look 49 = .ok (.iconst 0, 1) := dk_3 (dk_at dksX1_look_2 2 rfl rfl)
theorem dX1_look_50 : decode cX1_look 50 = .ok (.istore 5, 2) := dk_54 5 (dk_at dksX1_look_2 3 rfl rfl)
theorem dX1_look_52 : decode cX1_look 52 = .ok (.iload 5, 2) := dk_21 5 (dk_at dksX1_look_2 5 rfl rfl)
theorem dX1_look_54 : decode cX1_look 54 = .ok (.bipush 61, 2) := dk_16 61 (dk_at dksX1_look_2 7 rfl rfl)
theorem dX1_look_56 : decode cX1_look 56 = .ok (.if_icmp .ge 53, 3) := dk_162 0 53 (dk_at dksX1_look_2 9 rfl rfl)
theorem dX1_look_59 : decode cX1_look 59 = .ok (.aload_n 0, 1) := dk_42 (dk_at dksX1_look_2 12 rfl rfl)
theorem dX1_look_60 : decode cX1_look 60 = .ok (.getfield 38, 3) := dk_180 0 38 (dk_at dksX1_look_2 13 rfl rfl)
theorem dX1_look_63 : decode cX1_look 63 = .ok (.iload 5, 2) := dk_21 5 (dk_at dksX1_look_2 16 rfl rfl)
theorem dX1_look_65 : decode cX1_look 65 = .ok (.iaload, 1) := dk_46 (dk_at dksX1_look_2 18 rfl rfl)
theorem dX1_look_66 : decode cX1_look 66 = .ok (.iconst (-1), 1) := dk_2 (dk_at dksX1_look_2 19 rfl rfl)
theorem dX1_look_67 : decode cX1_look 67 = .ok (.if_icmp .eq 6, 3) := dk_159 0 6 (dk_at dksX1_look_2 20 rfl rfl)
theorem dX1_look_70 : decode cX1_look 70 = .ok (.goto 33, 3) := dk_167 0 33 (dk_at dksX1_look_3 0 rfl rfl)
theorem dX1_look_73 : decode cX1_look 73 = .ok (.aload_n 0, 1) := dk_42 (dk_at dksX1_look_3 3 rfl rfl)
theorem dX1_look_74 : decode cX1_look 74 = .ok (.iload 5, 2) := dk_21 5 (dk_at dksX1_look_3 4 rfl rfl)
theorem dX1_look_76 : decode cX1_look 76 = .ok (.invokevirtual 370, 3) := dk_182 1 114 (dk_at dksX1_look_3 6 rfl rfl)
theorem dX1_look_79 : decode cX1_look 79 = .ok (.istore 6, 2) := dk_54 6 (dk_at dksX1_look_3 9 rfl rfl)
theorem dX1_look_81 : decode cX1_look 81 = .ok (.iload_n 3, 1) := dk_29 (dk_at dksX1_look_3 11 rfl rfl)
theorem dX1_look_82 : decode cX1_look 82 = .ok (.iconst (-1), 1) := dk_2 (dk_at dksX1_look_3 12 rfl rfl)
theorem dX1_look_83 : decode cX1_look 83 = .ok (.if_icmp .eq 13, 3) := dk_159 0 13 (dk_at dksX1_look_3 13 rfl rfl)
theorem dX1_look_86 : decode cX1_look 86 = .ok (.iload 6, 2) := dk_21 6 (dk_at dksX1_look_3 16 rfl rfl)
theorem dX1_look_88 : decode cX1_look 88 = .ok (.iload 4, 2) := dk_21 4 (dk_at dksX1_look_3 18 rfl rfl)
theorem dX1_look_90 : decode cX1_look 90 = .ok (.if_icmp .lt 6, 3) := dk_161 0 6 (dk_at dksX1_look_3 20 rfl rfl)
theorem dX1_look_93 : decode cX1_look 93 = .ok (.goto 10, 3) := dk_167 0 10 (dk_at dksX1_look_4 0 rfl rfl)
theorem dX1_look_96 : decode cX1_look 96 = .ok (.iload 5, 2) := dk_21 5 (dk_at dksX1_look_4 3 rfl rfl)
theorem dX1_look_98 : decode cX1_look 98 = .ok (.istore_n 3, 1) := dk_62 (dk_at dksX1_look_4 5 rfl rfl)
theorem dX1_look_99 : decode cX1_look 99 = .ok (.iload 6, 2) := dk_21 6 (dk_at dksX1_look_4 6 rfl rfl)
theorem dX1_look_101 : decode cX1_look 101 = .ok (.istore 4, 2) := dk_54 4 (dk_at dksX1_look_4 8 rfl rfl)
theorem dX1_look_103 : decode cX1_look 103 = .ok (.iinc 5 1, 3) := dk_132 5 1 (dk_at dksX1_look_4 10 rfl rfl)
theorem dX1_look_106 : decode cX1_look 106 = .ok (.goto (-54), 3) := dk_167 255 202 (dk_at dksX1_look_4 13 rfl rfl)
theorem dX1_look_109 : decode cX1_look 109 = .ok (.iload_n 2, 1) := dk_28 (dk_at dksX1_look_4 16 rfl rfl)
theorem dX1_look_110 : decode cX1_look 110 = .ok (.ifCond .ne 7, 3) := dk_154 0 7 (dk_at dksX1_look_4 17 rfl rfl)
theorem dX1_look_113 : decode cX1_look 113 = .ok (.iload_n 3, 1) := dk_29 (dk_at dksX1_look_4 20 rfl rfl)
theorem dX1_look_114 : decode cX1_look 114 = .ok (.goto 5, 3) := dk_167 0 5 (dk_at dksX1_look_4 21 rfl rfl)
theorem dX1_look_117 : decode cX1_look 117 = .ok (.iload 4, 2) := dk_21 4 (dk_at dksX1_look_5 0 rfl rfl)
theorem dX1_look_119 : decode cX1_look 119 = .ok (.ireturn, 1) := dk_172 (dk_at dksX1_look_5 2 rfl rfl)
abbrev cX1_worstAt : ByteArray := prog_1_method_51_code
def yX1_worstAt : MethodName := ⟨RX1, "worstAt", "(I)I"⟩
def dkwX1_worstAt_3 : List UInt8 := [180, 0, 87, 21, 4, 46, 184, 0, 140, 61, 132, 3, 1, 167, 255, 198, 28, 172]
abbrev dktX1_worstAt_3 : List UInt8 := dkwX1_worstAt_3 ++ []
def dkwX1_worstAt_2 : List UInt8 := [16, 61, 29, 104, 27, 96, 46, 54, 4, 42, 180, 0, 87, 21, 4, 92, 46, 4, 96, 79, 28, 42]
abbrev dktX1_worstAt_2 : List UInt8 := dkwX1_worstAt_2 ++ dktX1_worstAt_3
def dkwX1_worstAt_1 : List UInt8 := [62, 29, 17, 3, 132, 162, 0, 57, 42, 180, 0, 90, 29, 51, 154, 0, 6, 167, 0, 39, 42, 180, 0, 84]
abbrev dktX1_worstAt_1 : List UInt8 := dkwX1_worstAt_1 ++ dktX1_worstAt_2
def dkwX1_worstAt_0 : List UInt8 := [3, 61, 28, 16, 99, 163, 0, 16, 42, 180, 0, 87, 28, 3, 79, 132, 2, 1, 167, 255, 240, 3, 61, 3]
abbrev dktX1_worstAt_0 : List UInt8 := dkwX1_worstAt_0 ++ dktX1_worstAt_1
theorem dksX1_worstAt_0 : cX1_worstAt.data.toList.drop 0 = dktX1_worstAt_0 := by decide +kernel
theorem dksX1_worstAt_1 : cX1_worstAt.data.toList.drop 24 = dktX1_worstAt_1 := dk_seg dksX1_worstAt_0 24 rfl rfl
theorem dksX1_worstAt_2 : cX1_worstAt.data.toList.drop 48 = dktX1_worstAt_2 := dk_seg dksX1_worstAt_1 24 rfl rfl
theorem dksX1_worstAt_3 : cX1_worstAt.data.toList.drop 70 = dktX1_worstAt_3 := dk_seg dksX1_worstAt_2 22 rfl rfl
theorem dX1_worstAt_0 : decode cX1_worstAt 0 = .ok (.iconst 0, 1) := dk_3 (dk_at dksX1_worstAt_0 0 rfl rfl)
theorem dX1_worstAt_1 : decode cX1_worstAt 1 = .ok (.istore_n 2, 1) := dk_61 (dk_at dksX1_worstAt_0 1 rfl rfl)
theorem dX1_worstAt_2 : decode cX1_worstAt 2 = .ok (.iload_n 2, 1) := dk_28 (dk_at dksX1_worstAt_0 2 rfl rfl)
theorem dX1_worstAt_3 : decode cX1_worstAt 3 = .ok (.bipush 99, 2) := dk_16 99 (dk_at dksX1_worstAt_0 3 rfl rfl)
theorem dX1_worstAt_5 : decode cX1_worstAt 5 = .ok (.if_icmp .gt 16, 3) := dk_163 0 16 (dk_at dksX1_worstAt_0 5 rfl rfl)
theorem dX1_worstAt_8 : decode cX1_worstAt 8 = .ok (.aload_n 0, 1) := dk_42 (dk_at dksX1_worstAt_0 8 rfl rfl)
theorem dX1_worstAt_9 : decode cX1_worstAt 9 = .ok (.getfield 87, 3) := dk_180 0 87 (dk_at dksX1_worstAt_0 9 rfl rfl)
theorem dX1_worstAt_12 : decode cX1_worstAt 12 = .ok (.iload_n 2, 1) := dk_28 (dk_at dksX1_worstAt_0 12 rfl rfl)
theorem dX1_worstAt_13 : decode cX1_worstAt 13 = .ok (.iconst 0, 1) := dk_3 (dk_at dksX1_worstAt_0 13 rfl rfl)
theorem dX1_worstAt_14 : decode cX1_worstAt 14 = .ok (.iastore, 1) := dk_79 (dk_at dksX1_worstAt_0 14 rfl rfl)
theorem dX1_worstAt_15 : decode cX1_worstAt 15 = .ok (.iinc 2 1, 3) := dk_132 2 1 (dk_at dksX1_worstAt_0 15 rfl rfl)
theorem dX1_worstAt_18 : decode cX1_worstAt 18 = .ok (.goto (-16), 3) := dk_167 255 240 (dk_at dksX1_worstAt_0 18 rfl rfl)
theorem dX1_worstAt_21 : decode cX1_worstAt 21 = .ok (.iconst 0, 1) := dk_3 (dk_at dksX1_worstAt_0 21 rfl rfl)
theorem dX1_worstAt_22 : decode cX1_worstAt 22 = .ok (.istore_n 2, 1) := dk_61 (dk_at dksX1_worstAt_0 22 rfl rfl)
theorem dX1_worstAt_23 : decode cX1_worstAt 23 = .ok (.iconst 0, 1) := dk_3 (dk_at dksX1_worstAt_0 23 rfl rfl)
theorem dX1_worstAt_24 : decode cX1_worstAt 24 = .ok (.istore_n 3, 1) := dk_62 (dk_at dksX1_worstAt_1 0 rfl rfl)
theorem dX1_worstAt_25 : decode cX1_worstAt 25 = .ok (.iload_n 3, 1) := dk_29 (dk_at dksX1_worstAt_1 1 rfl rfl)
theorem dX1_worstAt_26 : decode cX1_worstAt 26 = .ok (.sipush 900, 3) := dk_17 3 132 (dk_at dksX1_worstAt_1 2 rfl rfl)
theorem dX1_worstAt_29 : decode cX1_worstAt 29 = .ok (.if_icmp .ge 57, 3) := dk_162 0 57 (dk_at dksX1_worstAt_1 5 rfl rfl)
theorem dX1_worstAt_32 : decode cX1_worstAt 32 = .ok (.aload_n 0, 1) := dk_42 (dk_at dksX1_worstAt_1 8 rfl rfl)
theorem dX1_worstAt_33 : decode cX1_worstAt 33 = .ok (.getfield 90, 3) := dk_180 0 90 (dk_at dksX1_worstAt_1 9 rfl rfl)
theorem dX1_worstAt_36 : decode cX1_worstAt 36 = .ok (.iload_n 3, 1) := dk_29 (dk_at dksX1_worstAt_1 12 rfl rfl)
theorem dX1_worstAt_37 : decode cX1_worstAt 37 = .ok (.baload, 1) := dk_51 (dk_at dksX1_worstAt_1 13 rfl rfl)
theorem dX1_worstAt_38 : decode cX1_worstAt 38 = .ok (.ifCond .ne 6, 3) := dk_154 0 6 (dk_at dksX1_worstAt_1 14 rfl rfl)
theorem dX1_worstAt_41 : decode cX1_worstAt 41 = .ok (.goto 39, 3) := dk_167 0 39 (dk_at dksX1_worstAt_1 17 rfl rfl)
theorem dX1_worstAt_44 : decode cX1_worstAt 44 = .ok (.aload_n 0, 1) := dk_42 (dk_at dksX1_worstAt_1 20 rfl rfl)
theorem dX1_worstAt_45 : decode cX1_worstAt 45 = .ok (.getfield 84, 3) := dk_180 0 84 (dk_at dksX1_worstAt_1 21 rfl rfl)
theorem dX1_worstAt_48 : decode cX1_worstAt 48 = .ok (.bipush 61, 2) := dk_16 61 (dk_at dksX1_worstAt_2 0 rfl rfl)
theorem dX1_worstAt_50 : decode cX1_worstAt 50 = .ok (.iload_n 3, 1) := dk_29 (dk_at dksX1_worstAt_2 2 rfl rfl)
theorem dX1_worstAt_51 : decode cX1_worstAt 51 = .ok (.imul, 1) := dk_104 (dk_at dksX1_worstAt_2 3 rfl rfl)
theorem dX1_worstAt_52 : decode cX1_worstAt 52 = .ok (.iload_n 1, 1) := dk_27 (dk_at dksX1_worstAt_2 4 rfl rfl)
theorem dX1_worstAt_53 : decode cX1_worstAt 53 = .ok (.iadd, 1) := dk_96 (dk_at dksX1_worstAt_2 5 rfl rfl)
theorem dX1_worstAt_54 : decode cX1_worstAt 54 = .ok (.iaload, 1) := dk_46 (dk_at dksX1_worstAt_2 6 rfl rfl)
theorem dX1_worstAt_55 : decode cX1_worstAt 55 = .ok (.istore 4, 2) := dk_54 4 (dk_at dksX1_worstAt_2 7 rfl rfl)
theorem dX1_worstAt_57 : decode cX1_worstAt 57 = .ok (.aload_n 0, 1) := dk_42 (dk_at dksX1_worstAt_2 9 rfl rfl)
theorem dX1_worstAt_58 : decode cX1_worstAt 58 = .ok (.getfield 87, 3) := dk_180 0 87 (dk_at dksX1_worstAt_2 10 rfl rfl)
theorem dX1_worstAt_61 : decode cX1_worstAt 61 = .ok (.iload 4, 2) := dk_21 4 (dk_at dksX1_worstAt_2 13 rfl rfl)
theorem dX1_worstAt_63 : decode cX1_worstAt 63 = .ok (.dup2, 1) := dk_92 (dk_at dksX1_worstAt_2 15 rfl rfl)
theorem dX1_worstAt_64 : decode cX1_worstAt 64 = .ok (.iaload, 1) := dk_46 (dk_at dksX1_worstAt_2 16 rfl rfl)
theorem dX1_worstAt_65 : decode cX1_worstAt 65 = .ok (.iconst 1, 1) := dk_4 (dk_at dksX1_worstAt_2 17 rfl rfl)
theorem dX1_worstAt_66 : decode cX1_worstAt 66 = .ok (.iadd, 1) := dk_96 (dk_at dksX1_worstAt_2 18 rfl rfl)
theorem dX1_worstAt_67 : decode cX1_worstAt 67 = .ok (.iastore, 1) := dk_79 (dk_at dksX1_worstAt_2 19 rfl rfl)
theorem dX1_worstAt_68 : decode cX1_worstAt 68 = .ok (.iload_n 2, 1) := dk_28 (dk_at dksX1_worstAt_2 20 rfl rfl)
theorem dX1_worstAt_69 : decode cX1_worstAt 69 = .ok (.aload_n 0, 1) := dk_42 (dk_at dksX1_worstAt_2 21 rfl rfl)
theorem dX1_worstAt_70 : decode cX1_worstAt 70 = .ok (.getfield 87, 3) := dk_180 0 87 (dk_at dksX1_worstAt_3 0 rfl rfl)
theorem dX1_worstAt_73 : decode cX1_worstAt 73 = .ok (.iload 4, 2) := dk_21 4 (dk_at dksX1_worstAt_3 3 rfl rfl)
theorem dX1_worstAt_75 : decode cX1_worstAt 75 = .ok (.iaload, 1) := dk_46 (dk_at dksX1_worstAt_3 5 rfl rfl)
theorem dX1_worstAt_76 : decode cX1_worstAt 76 = .ok (.invokestatic 140, 3) := dk_184 0 140 (dk_at dksX1_worstAt_3 6 rfl rfl)
theorem dX1_worstAt_79 : decode cX1_worstAt 79 = .ok (.istore_n 2, 1) := dk_61 (dk_at dksX1_worstAt_3 9 rfl rfl)
theorem dX1_worstAt_80 : decode cX1_worstAt 80 = .ok (.iinc 3 1, 3) := dk_132 3 1 (dk_at dksX1_worstAt_3 10 rfl rfl)
theorem dX1_worstAt_83 : decode cX1_worstAt 83 = .ok (.goto (-58), 3) := dk_167 255 198 (dk_at dksX1_worstAt_3 13 rfl rfl)
theorem dX1_worstAt_86 : decode cX1_worstAt 86 = .ok (.iload_n 2, 1) := dk_28 (dk_at dksX1_worstAt_3 16 rfl rfl)
theorem dX1_worstAt_87 : decode cX1_worstAt 87 = .ok (.ireturn, 1) := dk_172 (dk_at dksX1_worstAt_3 17 rfl rfl)
abbrev cX1_way : ByteArray := prog_1_method_53_code
def yX1_way : MethodName := ⟨RX1, "way", "(II)I"⟩
def dkwX1_way_4 : List UInt8 := [167, 255, 180, 2, 172]
abbrev dktX1_way_4 : List UInt8 := dkwX1_way_4 ++ []
def dkwX1_way_3 : List UInt8 := [21, 6, 46, 167, 0, 4, 3, 128, 54, 5, 132, 6, 1, 167, 255, 213, 21, 5, 62, 132, 4, 1]
abbrev dktX1_way_3 : List UInt8 := dkwX1_way_3 ++ dktX1_way_4
def dkwX1_way_2 : List UInt8 := [180, 0, 149, 162, 0, 37, 21, 5, 29, 21, 6, 184, 1, 93, 153, 0, 16, 42, 180, 0, 22, 180, 1, 27]
abbrev dktX1_way_2 : List UInt8 := dkwX1_way_2 ++ dktX1_way_3
def dkwX1_way_1 : List UInt8 := [29, 28, 184, 1, 93, 153, 0, 6, 21, 4, 172, 29, 54, 5, 3, 54, 6, 21, 6, 42, 180, 0, 22]
abbrev dktX1_way_1 : List UInt8 := dkwX1_way_1 ++ dktX1_way_2
def dkwX1_way_0 : List UInt8 := [42, 27, 182, 1, 18, 42, 28, 182, 1, 18, 4, 27, 120, 62, 3, 54, 4, 21, 4, 16, 8, 162, 0, 75]
abbrev dktX1_way_0 : List UInt8 := dkwX1_way_0 ++ dktX1_way_1
theorem dksX1_way_0 : cX1_way.data.toList.drop 0 = dktX1_way_0 := by decide +kernel
theorem dksX1_way_1 : cX1_way.data.toList.drop 24 = dktX1_way_1 := dk_seg dksX1_way_0 24 rfl rfl
theorem dksX1_way_2 : cX1_way.data.toList.drop 47 = dktX1_way_2 := dk_seg dksX1_way_1 23 rfl rfl
theorem dksX1_way_3 : cX1_way.data.toList.drop 71 = dktX1_way_3 := dk_seg dksX1_way_2 24 rfl rfl
theorem dksX1_way_4 : cX1_way.data.toList.drop 93 = dktX1_way_4 := dk_seg dksX1_way_3 22 rfl rfl
theorem dX1_way_0 : decode cX1_way 0 = .ok (.aload_n 0, 1) := dk_42 (dk_at dksX1_way_0 0 rfl rfl)
theorem dX1_way_1 : decode cX1_way 1 = .ok (.iload_n 1, 1) := dk_27 (dk_at dksX1_way_0 1 rfl rfl)
theorem dX1_way_2 : decode cX1_way 2 = .ok (.invokevirtual 274, 3) := dk_182 1 18 (dk_at dksX1_way_0 2 rfl rfl)
theorem dX1_way_5 : decode cX1_way 5 = .ok (.aload_n 0, 1) := dk_42 (dk_at dksX1_way_0 5 rfl rfl)
theorem dX1_way_6 : decode cX1_way 6 = .ok (.iload_n 2, 1) := dk_28 (dk_at dksX1_way_0 6 rfl rfl)
theorem dX1_way_7 : decode cX1_way 7 = .ok (.invokevirtual 274, 3) := dk_182 1 18 (dk_at dksX1_way_0 7 rfl rfl)
theorem dX1_way_10 : decode cX1_way 10 = .ok (.iconst 1, 1) := dk_4 (dk_at dksX1_way_0 10 rfl rfl)
theorem dX1_way_11 : decode cX1_way 11 = .ok (.iload_n 1, 1) := dk_27 (dk_at dksX1_way_0 11 rfl rfl)
theorem dX1_way_12 : decode cX1_way 12 = .ok (.ishl, 1) := dk_120 (dk_at dksX1_way_0 12 rfl rfl)
theorem dX1_way_13 : decode cX1_way 13 = .ok (.istore_n 3, 1) := dk_62 (dk_at dksX1_way_0 13 rfl rfl)
theorem dX1_way_14 : decode cX1_way 14 = .ok (.iconst 0, 1) := dk_3 (dk_at dksX1_way_0 14 rfl rfl)
theorem dX1_way_15 : decode cX1_way 15 = .ok (.istore 4, 2) := dk_54 4 (dk_at dksX1_way_0 15 rfl rfl)
theorem dX1_way_17 : decode cX1_way 17 = .ok (.iload 4, 2) := dk_21 4 (dk_at dksX1_way_0 17 rfl rfl)
theorem dX1_way_19 : decode cX1_way 19 = .ok (.bipush 8, 2) := dk_16 8 (dk_at dksX1_way_0 19 rfl rfl)
theorem dX1_way_21 : decode cX1_way 21 = .ok (.if_icmp .ge 75, 3) := dk_162 0 75 (dk_at dksX1_way_0 21 rfl rfl)
theorem dX1_way_24 : decode cX1_way 24 = .ok (.iload_n 3, 1) := dk_29 (dk_at dksX1_way_1 0 rfl rfl)
theorem dX1_way_25 : decode cX1_way 25 = .ok (.iload_n 2, 1) := dk_28 (dk_at dksX1_way_1 1 rfl rfl)
theorem dX1_way_26 : decode cX1_way 26 = .ok (.invokestatic 349, 3) := dk_184 1 93 (dk_at dksX1_way_1 2 rfl rfl)
theorem dX1_way_29 : decode cX1_way 29 = .ok (.ifCond .eq 6, 3) := dk_153 0 6 (dk_at dksX1_way_1 5 rfl rfl)
theorem dX1_way_32 : decode cX1_way 32 = .ok (.iload 4, 2) := dk_21 4 (dk_at dksX1_way_1 8 rfl rfl)
theorem dX1_way_34 : decode cX1_way 34 = .ok (.ireturn, 1) := dk_172 (dk_at dksX1_way_1 10 rfl rfl)
theorem dX1_way_35 : decode cX1_way 35 = .ok (.iload_n 3, 1) := dk_29 (dk_at dksX1_way_1 11 rfl rfl)
theorem dX1_way_36 : decode cX1_way 36 = .ok (.istore 5, 2) := dk_54 5 (dk_at dksX1_way_1 12 rfl rfl)
theorem dX1_way_38 : decode cX1_way 38 = .ok (.iconst 0, 1) := dk_3 (dk_at dksX1_way_1 14 rfl rfl)
theorem dX1_way_39 : decode cX1_way 39 = .ok (.istore 6, 2) := dk_54 6 (dk_at dksX1_way_1 15 rfl rfl)
theorem dX1_way_41 : decode cX1_way 41 = .ok (.iload 6, 2) := dk_21 6 (dk_at dksX1_way_1 17 rfl rfl)
theorem dX1_way_43 : decode cX1_way 43 = .ok (.aload_n 0, 1) := dk_42 (dk_at dksX1_way_1 19 rfl rfl)
theorem dX1_way_44 : decode cX1_way 44 = .ok (.getfield 22, 3) := dk_180 0 22 (dk_at dksX1_way_1 20 rfl rfl)
theorem dX1_way_47 : decode cX1_way 47 = .ok (.getfield 149, 3) := dk_180 0 149 (dk_at dksX1_way_2 0 rfl rfl)
theorem dX1_way_50 : decode cX1_way 50 = .ok (.if_icmp .ge 37, 3) := dk_162 0 37 (dk_at dksX1_way_2 3 rfl rfl)
theorem dX1_way_53 : decode cX1_way 53 = .ok (.iload 5, 2) := dk_21 5 (dk_at dksX1_way_2 6 rfl rfl)
theorem dX1_way_55 : decode cX1_way 55 = .ok (.iload_n 3, 1) := dk_29 (dk_at dksX1_way_2 8 rfl rfl)
theorem dX1_way_56 : decode cX1_way 56 = .ok (.iload 6, 2) := dk_21 6 (dk_at dksX1_way_2 9 rfl rfl)
theorem dX1_way_58 : decode cX1_way 58 = .ok (.invokestatic 349, 3) := dk_184 1 93 (dk_at dksX1_way_2 11 rfl rfl)
theorem dX1_way_61 : decode cX1_way 61 = .ok (.ifCond .eq 16, 3) := dk_153 0 16 (dk_at dksX1_way_2 14 rfl rfl)
theorem dX1_way_64 : decode cX1_way 64 = .ok (.aload_n 0, 1) := dk_42 (dk_at dksX1_way_2 17 rfl rfl)
theorem dX1_way_65 : decode cX1_way 65 = .ok (.getfield 22, 3) := dk_180 0 22 (dk_at dksX1_way_2 18 rfl rfl)
theorem dX1_way_68 : decode cX1_way 68 = .ok (.getfield 283, 3) := dk_180 1 27 (dk_at dksX1_way_2 21 rfl rfl)
theorem dX1_way_71 : decode cX1_way 71 = .ok (.iload 6, 2) := dk_21 6 (dk_at dksX1_way_3 0 rfl rfl)
theorem dX1_way_73 : decode cX1_way 73 = .ok (.iaload, 1) := dk_46 (dk_at dksX1_way_3 2 rfl rfl)
theorem dX1_way_74 : decode cX1_way 74 = .ok (.goto 4, 3) := dk_167 0 4 (dk_at dksX1_way_3 3 rfl rfl)
theorem dX1_way_77 : decode cX1_way 77 = .ok (.iconst 0, 1) := dk_3 (dk_at dksX1_way_3 6 rfl rfl)
theorem dX1_way_78 : decode cX1_way 78 = .ok (.ior, 1) := dk_128 (dk_at dksX1_way_3 7 rfl rfl)
theorem dX1_way_79 : decode cX1_way 79 = .ok (.istore 5, 2) := dk_54 5 (dk_at dksX1_way_3 8 rfl rfl)
theorem dX1_way_81 : decode cX1_way 81 = .ok (.iinc 6 1, 3) := dk_132 6 1 (dk_at dksX1_way_3 10 rfl rfl)
theorem dX1_way_84 : decode cX1_way 84 = .ok (.goto (-43), 3) := dk_167 255 213 (dk_at dksX1_way_3 13 rfl rfl)
theorem dX1_way_87 : decode cX1_way 87 = .ok (.iload 5, 2) := dk_21 5 (dk_at dksX1_way_3 16 rfl rfl)
theorem dX1_way_89 : decode cX1_way 89 = .ok (.istore_n 3, 1) := dk_62 (dk_at dksX1_way_3 18 rfl rfl)
theorem dX1_way_90 : decode cX1_way 90 = .ok (.iinc 4 1, 3) := dk_132 4 1 (dk_at dksX1_way_3 19 rfl rfl)
theorem dX1_way_93 : decode cX1_way 93 = .ok (.goto (-76), 3) := dk_167 255 180 (dk_at dksX1_way_4 0 rfl rfl)
theorem dX1_way_96 : decode cX1_way 96 = .ok (.iconst (-1), 1) := dk_2 (dk_at dksX1_way_4 3 rfl rfl)
theorem dX1_way_97 : decode cX1_way 97 = .ok (.ireturn, 1) := dk_172 (dk_at dksX1_way_4 4 rfl rfl)
abbrev cX1_price : ByteArray := prog_1_method_57_code
def yX1_price : MethodName := ⟨RX1, "price", "(III)J"⟩
def dkwX1_price_4 : List UInt8 := [22, 12, 55, 10, 167, 255, 234, 29, 154, 0, 8, 22, 4, 167, 0, 5, 22, 6, 22, 8, 109, 173]
abbrev dktX1_price_4 : List UInt8 := dkwX1_price_4 ++ []
def dkwX1_price_3 : List UInt8 := [55, 8, 22, 6, 55, 10, 22, 10, 9, 148, 153, 0, 21, 22, 8, 22, 10, 113, 55, 12, 22, 10, 55, 8]
abbrev dktX1_price_3 : List UInt8 := dkwX1_price_3 ++ dktX1_price_4
def dkwX1_price_2 : List UInt8 := [3, 54, 8, 21, 8, 27, 162, 0, 16, 22, 6, 28, 133, 105, 55, 6, 132, 8, 1, 167, 255, 240, 22, 4]
abbrev dktX1_price_2 : List UInt8 := dkwX1_price_2 ++ dktX1_price_3
def dkwX1_price_1 : List UInt8 := [184, 1, 40, 153, 0, 7, 4, 167, 0, 4, 3, 182, 0, 172, 27, 28, 184, 1, 125, 55, 4, 10, 55, 6]
abbrev dktX1_price_1 : List UInt8 := dkwX1_price_1 ++ dktX1_price_2
def dkwX1_price_0 : List UInt8 := [42, 27, 4, 16, 6, 184, 0, 246, 153, 0, 24, 28, 4, 16, 9, 184, 0, 246, 153, 0, 14, 29]
abbrev dktX1_price_0 : List UInt8 := dkwX1_price_0 ++ dktX1_price_1
theorem dksX1_price_0 : cX1_price.data.toList.drop 0 = dktX1_price_0 := by decide +kernel
theorem dksX1_price_1 : cX1_price.data.toList.drop 22 = dktX1_price_1 := dk_seg dksX1_price_0 22 rfl rfl
theorem dksX1_price_2 : cX1_price.data.toList.drop 46 = dktX1_price_2 := dk_seg dksX1_price_1 24 rfl rfl
theorem dksX1_price_3 : cX1_price.data.toList.drop 70 = dktX1_price_3 := dk_seg dksX1_price_2 24 rfl rfl
theorem dksX1_price_4 : cX1_price.data.toList.drop 94 = dktX1_price_4 := dk_seg dksX1_price_3 24 rfl rfl
theorem dX1_price_0 : decode cX1_price 0 = .ok (.aload_n 0, 1) := dk_42 (dk_at dksX1_price_0 0 rfl rfl)
theorem dX1_price_1 : decode cX1_price 1 = .ok (.iload_n 1, 1) := dk_27 (dk_at dksX1_price_0 1 rfl rfl)
theorem dX1_price_2 : decode cX1_price 2 = .ok (.iconst 1, 1) := dk_4 (dk_at dksX1_price_0 2 rfl rfl)
theorem dX1_price_3 : decode cX1_price 3 = .ok (.bipush 6, 2) := dk_16 6 (dk_at dksX1_price_0 3 rfl rfl)
theorem dX1_price_5 : decode cX1_price 5 = .ok (.invokestatic 246, 3) := dk_184 0 246 (dk_at dksX1_price_0 5 rfl rfl)
theorem dX1_price_8 : decode cX1_price 8 = .ok (.ifCond .eq 24, 3) := dk_153 0 24 (dk_at dksX1_price_0 8 rfl rfl)
theorem dX1_price_11 : decode cX1_price 11 = .ok (.iload_n 2, 1) := dk_28 (dk_at dksX1_price_0 11 rfl rfl)
theorem dX1_price_12 : decode cX1_price 12 = .ok (.iconst 1, 1) := dk_4 (dk_at dksX1_price_0 12 rfl rfl)
theorem dX1_price_13 : decode cX1_price 13 = .ok (.bipush 9, 2) := dk_16 9 (dk_at dksX1_price_0 13 rfl rfl)
theorem dX1_price_15 : decode cX1_price 15 = .ok (.invokestatic 246, 3) := dk_184 0 246 (dk_at dksX1_price_0 15 rfl rfl)
theorem dX1_price_18 : decode cX1_price 18 = .ok (.ifCond .eq 14, 3) := dk_153 0 14 (dk_at dksX1_price_0 18 rfl rfl)
theorem dX1_price_21 : decode cX1_price 21 = .ok (.iload_n 3, 1) := dk_29 (dk_at dksX1_price_0 21 rfl rfl)
theorem dX1_price_22 : decode cX1_price 22 = .ok (.invokestatic 296, 3) := dk_184 1 40 (dk_at dksX1_price_1 0 rfl rfl)
theorem dX1_price_25 : decode cX1_price 25 = .ok (.ifCond .eq 7, 3) := dk_153 0 7 (dk_at dksX1_price_1 3 rfl rfl)
theorem dX1_price_28 : decode cX1_price 28 = .ok (.iconst 1, 1) := dk_4 (dk_at dksX1_price_1 6 rfl rfl)
theorem dX1_price_29 : decode cX1_price 29 = .ok (.goto 4, 3) := dk_167 0 4 (dk_at dksX1_price_1 7 rfl rfl)
theorem dX1_price_32 : decode cX1_price 32 = .ok (.iconst 0, 1) := dk_3 (dk_at dksX1_price_1 10 rfl rfl)
theorem dX1_price_33 : decode cX1_price 33 = .ok (.invokevirtual 172, 3) := dk_182 0 172 (dk_at dksX1_price_1 11 rfl rfl)
theorem dX1_price_36 : decode cX1_price 36 = .ok (.iload_n 1, 1) := dk_27 (dk_at dksX1_price_1 14 rfl rfl)
theorem dX1_price_37 : decode cX1_price 37 = .ok (.iload_n 2, 1) := dk_28 (dk_at dksX1_price_1 15 rfl rfl)
theorem dX1_price_38 : decode cX1_price 38 = .ok (.invokestatic 381, 3) := dk_184 1 125 (dk_at dksX1_price_1 16 rfl rfl)
theorem dX1_price_41 : decode cX1_price 41 = .ok (.lstore 4, 2) := dk_55 4 (dk_at dksX1_price_1 19 rfl rfl)
theorem dX1_price_43 : decode cX1_price 43 = .ok (.lconst 1, 1) := dk_10 (dk_at dksX1_price_1 21 rfl rfl)
theorem dX1_price_44 : decode cX1_price 44 = .ok (.lstore 6, 2) := dk_55 6 (dk_at dksX1_price_1 22 rfl rfl)
theorem dX1_price_46 : decode cX1_price 46 = .ok (.iconst 0, 1) := dk_3 (dk_at dksX1_price_2 0 rfl rfl)
theorem dX1_price_47 : decode cX1_price 47 = .ok (.istore 8, 2) := dk_54 8 (dk_at dksX1_price_2 1 rfl rfl)
theorem dX1_price_49 : decode cX1_price 49 = .ok (.iload 8, 2) := dk_21 8 (dk_at dksX1_price_2 3 rfl rfl)
theorem dX1_price_51 : decode cX1_price 51 = .ok (.iload_n 1, 1) := dk_27 (dk_at dksX1_price_2 5 rfl rfl)
theorem dX1_price_52 : decode cX1_price 52 = .ok (.if_icmp .ge 16, 3) := dk_162 0 16 (dk_at dksX1_price_2 6 rfl rfl)
theorem dX1_price_55 : decode cX1_price 55 = .ok (.lload 6, 2) := dk_22 6 (dk_at dksX1_price_2 9 rfl rfl)
theorem dX1_price_57 : decode cX1_price 57 = .ok (.iload_n 2, 1) := dk_28 (dk_at dksX1_price_2 11 rfl rfl)
theorem dX1_price_58 : decode cX1_price 58 = .ok (.i2l, 1) := dk_133 (dk_at dksX1_price_2 12 rfl rfl)
theorem dX1_price_59 : decode cX1_price 59 = .ok (.lmul, 1) := dk_105 (dk_at dksX1_price_2 13 rfl rfl)
theorem dX1_price_60 : decode cX1_price 60 = .ok (.lstore 6, 2) := dk_55 6 (dk_at dksX1_price_2 14 rfl rfl)
theorem dX1_price_62 : decode cX1_price 62 = .ok (.iinc 8 1, 3) := dk_132 8 1 (dk_at dksX1_price_2 16 rfl rfl)
theorem dX1_price_65 : decode cX1_price 65 = .ok (.goto (-16), 3) := dk_167 255 240 (dk_at dksX1_price_2 19 rfl rfl)
theorem dX1_price_68 : decode cX1_price 68 = .ok (.lload 4, 2) := dk_22 4 (dk_at dksX1_price_2 22 rfl rfl)
theorem dX1_price_70 : decode cX1_price 70 = .ok (.lstore 8, 2) := dk_55 8 (dk_at dksX1_price_3 0 rfl rfl)
theorem dX1_price_72 : decode cX1_price 72 = .ok (.lload 6, 2) := dk_22 6 (dk_at dksX1_price_3 2 rfl rfl)
theorem dX1_price_74 : decode cX1_price 74 = .ok (.lstore 10, 2) := dk_55 10 (dk_at dksX1_price_3 4 rfl rfl)
theorem dX1_price_76 : decode cX1_price 76 = .ok (.lload 10, 2) := dk_22 10 (dk_at dksX1_price_3 6 rfl rfl)
theorem dX1_price_78 : decode cX1_price 78 = .ok (.lconst 0, 1) := dk_9 (dk_at dksX1_price_3 8 rfl rfl)
theorem dX1_price_79 : decode cX1_price 79 = .ok (.lcmp, 1) := dk_148 (dk_at dksX1_price_3 9 rfl rfl)
theorem dX1_price_80 : decode cX1_price 80 = .ok (.ifCond .eq 21, 3) := dk_153 0 21 (dk_at dksX1_price_3 10 rfl rfl)
theorem dX1_price_83 : decode cX1_price 83 = .ok (.lload 8, 2) := dk_22 8 (dk_at dksX1_price_3 13 rfl rfl)
theorem dX1_price_85 : decode cX1_price 85 = .ok (.lload 10, 2) := dk_22 10 (dk_at dksX1_price_3 15 rfl rfl)
theorem dX1_price_87 : decode cX1_price 87 = .ok (.lrem, 1) := dk_113 (dk_at dksX1_price_3 17 rfl rfl)
theorem dX1_price_88 : decode cX1_price 88 = .ok (.lstore 12, 2) := dk_55 12 (dk_at dksX1_price_3 18 rfl rfl)
theorem dX1_price_90 : decode cX1_price 90 = .ok (.lload 10, 2) := dk_22 10 (dk_at dksX1_price_3 20 rfl rfl)
theorem dX1_price_92 : decode cX1_price 92 = .ok (.lstore 8, 2) := dk_55 8 (dk_at dksX1_price_3 22 rfl rfl)
theorem dX1_price_94 : decode cX1_price 94 = .ok (.lload 12, 2) := dk_22 12 (dk_at dksX1_price_4 0 rfl rfl)
theorem dX1_price_96 : decode cX1_price 96 = .ok (.lstore 10, 2) := dk_55 10 (dk_at dksX1_price_4 2 rfl rfl)
theorem dX1_price_98 : decode cX1_price 98 = .ok (.goto (-22), 3) := dk_167 255 234 (dk_at dksX1_price_4 4 rfl rfl)
theorem dX1_price_101 : decode cX1_price 101 = .ok (.iload_n 3, 1) := dk_29 (dk_at dksX1_price_4 7 rfl rfl)
theorem dX1_price_102 : decode cX1_price 102 = .ok (.ifCond .ne 8, 3) := dk_154 0 8 (dk_at dksX1_price_4 8 rfl rfl)
theorem dX1_price_105 : decode cX1_price 105 = .ok (.lload 4, 2) := dk_22 4 (dk_at dksX1_price_4 11 rfl rfl)
theorem dX1_price_107 : decode cX1_price 107 = .ok (.goto 5, 3) := dk_167 0 5 (dk_at dksX1_price_4 13 rfl rfl)
theorem dX1_price_110 : decode cX1_price 110 = .ok (.lload 6, 2) := dk_22 6 (dk_at dksX1_price_4 16 rfl rfl)
theorem dX1_price_112 : decode cX1_price 112 = .ok (.lload 8, 2) := dk_22 8 (dk_at dksX1_price_4 18 rfl rfl)
theorem dX1_price_114 : decode cX1_price 114 = .ok (.ldiv, 1) := dk_109 (dk_at dksX1_price_4 20 rfl rfl)
theorem dX1_price_115 : decode cX1_price 115 = .ok (.lreturn, 1) := dk_173 (dk_at dksX1_price_4 21 rfl rfl)
abbrev cX1_bestOf : ByteArray := prog_1_method_56_code
def yX1_bestOf : MethodName := ⟨RX1, "bestOf", "(II)J"⟩
def dkwX1_bestOf_3 : List UInt8 := [167, 255, 232, 22, 6, 173]
abbrev dktX1_bestOf_3 : List UInt8 := dkwX1_bestOf_3 ++ []
def dkwX1_bestOf_2 : List UInt8 := [27, 163, 0, 24, 22, 6, 21, 8, 133, 22, 4, 105, 32, 184, 1, 129, 97, 55, 6, 132, 8, 1]
abbrev dktX1_bestOf_2 : List UInt8 := dkwX1_bestOf_2 ++ dktX1_bestOf_3
def dkwX1_bestOf_1 : List UInt8 := [162, 0, 16, 22, 4, 27, 133, 105, 55, 4, 132, 6, 1, 167, 255, 240, 9, 55, 6, 4, 54, 8, 21, 8]
abbrev dktX1_bestOf_1 : List UInt8 := dkwX1_bestOf_1 ++ dktX1_bestOf_2
def dkwX1_bestOf_0 : List UInt8 := [26, 154, 0, 5, 9, 173, 26, 4, 100, 27, 184, 1, 125, 65, 10, 55, 4, 4, 54, 6, 21, 6, 26]
abbrev dktX1_bestOf_0 : List UInt8 := dkwX1_bestOf_0 ++ dktX1_bestOf_1
theorem dksX1_bestOf_0 : cX1_bestOf.data.toList.drop 0 = dktX1_bestOf_0 := by decide +kernel
theorem dksX1_bestOf_1 : cX1_bestOf.data.toList.drop 23 = dktX1_bestOf_1 := dk_seg dksX1_bestOf_0 23 rfl rfl
theorem dksX1_bestOf_2 : cX1_bestOf.data.toList.drop 47 = dktX1_bestOf_2 := dk_seg dksX1_bestOf_1 24 rfl rfl
theorem dksX1_bestOf_3 : cX1_bestOf.data.toList.drop 69 = dktX1_bestOf_3 := dk_seg dksX1_bestOf_2 22 rfl rfl
theorem dX1_bestOf_0 : decode cX1_bestOf 0 = .ok (.iload_n 0, 1) := dk_26 (dk_at dksX1_bestOf_0 0 rfl rfl)
theorem dX1_bestOf_1 : decode cX1_bestOf 1 = .ok (.ifCond .ne 5, 3) := dk_154 0 5 (dk_at dksX1_bestOf_0 1 rfl rfl)
theorem dX1_bestOf_4 : decode cX1_bestOf 4 = .ok (.lconst 0, 1) := dk_9 (dk_at dksX1_bestOf_0 4 rfl rfl)
theorem dX1_bestOf_5 : decode cX1_bestOf 5 = .ok (.lreturn, 1) := dk_173 (dk_at dksX1_bestOf_0 5 rfl rfl)
theorem dX1_bestOf_6 : decode cX1_bestOf 6 = .ok (.iload_n 0, 1) := dk_26 (dk_at dksX1_bestOf_0 6 rfl rfl)
theorem dX1_bestOf_7 : decode cX1_bestOf 7 = .ok (.iconst 1, 1) := dk_4 (dk_at dksX1_bestOf_0 7 rfl rfl)
theorem dX1_bestOf_8 : decode cX1_bestOf 8 = .ok (.isub, 1) := dk_100 (dk_at dksX1_bestOf_0 8 rfl rfl)
theorem dX1_bestOf_9 : decode cX1_bestOf 9 = .ok (.iload_n 1, 1) := dk_27 (dk_at dksX1_bestOf_0 9 rfl rfl)
theorem dX1_bestOf_10 : decode cX1_bestOf 10 = .ok (.invokestatic 381, 3) := dk_184 1 125 (dk_at dksX1_bestOf_0 10 rfl rfl)
theorem dX1_bestOf_13 : decode cX1_bestOf 13 = .ok (.lstore_n 2, 1) := dk_65 (dk_at dksX1_bestOf_0 13 rfl rfl)
theorem dX1_bestOf_14 : decode cX1_bestOf 14 = .ok (.lconst 1, 1) := dk_10 (dk_at dksX1_bestOf_0 14 rfl rfl)
theorem dX1_bestOf_15 : decode cX1_bestOf 15 = .ok (.lstore 4, 2) := dk_55 4 (dk_at dksX1_bestOf_0 15 rfl rfl)
theorem dX1_bestOf_17 : decode cX1_bestOf 17 = .ok (.iconst 1, 1) := dk_4 (dk_at dksX1_bestOf_0 17 rfl rfl)
theorem dX1_bestOf_18 : decode cX1_bestOf 18 = .ok (.istore 6, 2) := dk_54 6 (dk_at dksX1_bestOf_0 18 rfl rfl)
theorem dX1_bestOf_20 : decode cX1_bestOf 20 = .ok (.iload 6, 2) := dk_21 6 (dk_at dksX1_bestOf_0 20 rfl rfl)
theorem dX1_bestOf_22 : decode cX1_bestOf 22 = .ok (.iload_n 0, 1) := dk_26 (dk_at dksX1_bestOf_0 22 rfl rfl)
theorem dX1_bestOf_23 : decode cX1_bestOf 23 = .ok (.if_icmp .ge 16, 3) := dk_162 0 16 (dk_at dksX1_bestOf_1 0 rfl rfl)
theorem dX1_bestOf_26 : decode cX1_bestOf 26 = .ok (.lload 4, 2) := dk_22 4 (dk_at dksX1_bestOf_1 3 rfl rfl)
theorem dX1_bestOf_28 : decode cX1_bestOf 28 = .ok (.iload_n 1, 1) := dk_27 (dk_at dksX1_bestOf_1 5 rfl rfl)
theorem dX1_bestOf_29 : decode cX1_bestOf 29 = .ok (.i2l, 1) := dk_133 (dk_at dksX1_bestOf_1 6 rfl rfl)
theorem dX1_bestOf_30 : decode cX1_bestOf 30 = .ok (.lmul, 1) := dk_105 (dk_at dksX1_bestOf_1 7 rfl rfl)
theorem dX1_bestOf_31 : decode cX1_bestOf 31 = .ok (.lstore 4, 2) := dk_55 4 (dk_at dksX1_bestOf_1 8 rfl rfl)
theorem dX1_bestOf_33 : decode cX1_bestOf 33 = .ok (.iinc 6 1, 3) := dk_132 6 1 (dk_at dksX1_bestOf_1 10 rfl rfl)
theorem dX1_bestOf_36 : decode cX1_bestOf 36 = .ok (.goto (-16), 3) := dk_167 255 240 (dk_at dksX1_bestOf_1 13 rfl rfl)
theorem dX1_bestOf_39 : decode cX1_bestOf 39 = .ok (.lconst 0, 1) := dk_9 (dk_at dksX1_bestOf_1 16 rfl rfl)
theorem dX1_bestOf_40 : decode cX1_bestOf 40 = .ok (.lstore 6, 2) := dk_55 6 (dk_at dksX1_bestOf_1 17 rfl rfl)
theorem dX1_bestOf_42 : decode cX1_bestOf 42 = .ok (.iconst 1, 1) := dk_4 (dk_at dksX1_bestOf_1 19 rfl rfl)
theorem dX1_bestOf_43 : decode cX1_bestOf 43 = .ok (.istore 8, 2) := dk_54 8 (dk_at dksX1_bestOf_1 20 rfl rfl)
theorem dX1_bestOf_45 : decode cX1_bestOf 45 = .ok (.iload 8, 2) := dk_21 8 (dk_at dksX1_bestOf_1 22 rfl rfl)
theorem dX1_bestOf_47 : decode cX1_bestOf 47 = .ok (.iload_n 1, 1) := dk_27 (dk_at dksX1_bestOf_2 0 rfl rfl)
theorem dX1_bestOf_48 : decode cX1_bestOf 48 = .ok (.if_icmp .gt 24, 3) := dk_163 0 24 (dk_at dksX1_bestOf_2 1 rfl rfl)
theorem dX1_bestOf_51 : decode cX1_bestOf 51 = .ok (.lload 6, 2) := dk_22 6 (dk_at dksX1_bestOf_2 4 rfl rfl)
theorem dX1_bestOf_53 : decode cX1_bestOf 53 = .ok (.iload 8, 2) := dk_21 8 (dk_at dksX1_bestOf_2 6 rfl rfl)
theorem dX1_bestOf_55 : decode cX1_bestOf 55 = .ok (.i2l, 1) := dk_133 (dk_at dksX1_bestOf_2 8 rfl rfl)
theorem dX1_bestOf_56 : decode cX1_bestOf 56 = .ok (.lload 4, 2) := dk_22 4 (dk_at dksX1_bestOf_2 9 rfl rfl)
theorem dX1_bestOf_58 : decode cX1_bestOf 58 = .ok (.lmul, 1) := dk_105 (dk_at dksX1_bestOf_2 11 rfl rfl)
theorem dX1_bestOf_59 : decode cX1_bestOf 59 = .ok (.lload_n 2, 1) := dk_32 (dk_at dksX1_bestOf_2 12 rfl rfl)
theorem dX1_bestOf_60 : decode cX1_bestOf 60 = .ok (.invokestatic 385, 3) := dk_184 1 129 (dk_at dksX1_bestOf_2 13 rfl rfl)
theorem dX1_bestOf_63 : decode cX1_bestOf 63 = .ok (.ladd, 1) := dk_97 (dk_at dksX1_bestOf_2 16 rfl rfl)
theorem dX1_bestOf_64 : decode cX1_bestOf 64 = .ok (.lstore 6, 2) := dk_55 6 (dk_at dksX1_bestOf_2 17 rfl rfl)
theorem dX1_bestOf_66 : decode cX1_bestOf 66 = .ok (.iinc 8 1, 3) := dk_132 8 1 (dk_at dksX1_bestOf_2 19 rfl rfl)
theorem dX1_bestOf_69 : decode cX1_bestOf 69 = .ok (.goto (-24), 3) := dk_167 255 232 (dk_at dksX1_bestOf_3 0 rfl rfl)
theorem dX1_bestOf_72 : decode cX1_bestOf 72 = .ok (.lload 6, 2) := dk_22 6 (dk_at dksX1_bestOf_3 3 rfl rfl)
theorem dX1_bestOf_74 : decode cX1_bestOf 74 = .ok (.lreturn, 1) := dk_173 (dk_at dksX1_bestOf_3 5 rfl rfl)
abbrev cX1_tuner : ByteArray := prog_1_method_60_code
def yX1_tuner : MethodName := ⟨RX1, "tuner", "(III)I"⟩
def dkwX1_tuner_8 : List UInt8 := [16, 10, 108, 21, 5, 16, 10, 112, 27, 28, 184, 1, 136, 96, 172]
abbrev dktX1_tuner_8 : List UInt8 := dkwX1_tuner_8 ++ []
def dkwX1_tuner_7 : List UInt8 := [2, 160, 0, 7, 3, 167, 0, 33, 21, 5, 16, 10, 108, 21, 5, 16, 10, 112, 27, 184, 1, 132, 21, 5]
abbrev dktX1_tuner_7 : List UInt8 := dkwX1_tuner_7 ++ dktX1_tuner_8
def dkwX1_tuner_6 : List UInt8 := [167, 255, 166, 29, 154, 0, 8, 21, 4, 167, 0, 53, 29, 4, 160, 0, 8, 21, 5, 167, 0, 43, 21, 5]
abbrev dktX1_tuner_6 : List UInt8 := dkwX1_tuner_6 ++ dktX1_tuner_7
def dkwX1_tuner_5 : List UInt8 := [160, 0, 13, 16, 10, 21, 6, 104, 21, 7, 96, 54, 5, 132, 7, 1, 167, 255, 181, 132, 6, 1]
abbrev dktX1_tuner_5 : List UInt8 := dkwX1_tuner_5 ++ dktX1_tuner_6
def dkwX1_tuner_4 : List UInt8 := [184, 1, 136, 21, 6, 21, 7, 27, 28, 184, 1, 136, 164, 0, 6, 167, 0, 22, 132, 4, 1, 21, 5, 2]
abbrev dktX1_tuner_4 : List UInt8 := dkwX1_tuner_4 ++ dktX1_tuner_5
def dkwX1_tuner_3 : List UInt8 := [184, 1, 132, 21, 6, 21, 7, 27, 184, 1, 132, 163, 0, 48, 21, 6, 4, 21, 7, 100, 27, 28]
abbrev dktX1_tuner_3 : List UInt8 := dkwX1_tuner_3 ++ dktX1_tuner_4
def dkwX1_tuner_2 : List UInt8 := [21, 6, 4, 163, 0, 90, 3, 54, 7, 21, 7, 4, 163, 0, 75, 4, 21, 6, 100, 21, 7, 27]
abbrev dktX1_tuner_2 : List UInt8 := dkwX1_tuner_2 ++ dktX1_tuner_3
def dkwX1_tuner_1 : List UInt8 := [184, 0, 246, 153, 0, 7, 4, 167, 0, 4, 3, 182, 0, 172, 3, 54, 4, 2, 54, 5, 3, 54, 6]
abbrev dktX1_tuner_1 : List UInt8 := dkwX1_tuner_1 ++ dktX1_tuner_2
def dkwX1_tuner_0 : List UInt8 := [42, 27, 3, 16, 99, 184, 0, 246, 153, 0, 26, 28, 3, 16, 99, 184, 0, 246, 153, 0, 16, 29, 3, 5]
abbrev dktX1_tuner_0 : List UInt8 := dkwX1_tuner_0 ++ dktX1_tuner_1
theorem dksX1_tuner_0 : cX1_tuner.data.toList.drop 0 = dktX1_tuner_0 := by decide +kernel
theorem dksX1_tuner_1 : cX1_tuner.data.toList.drop 24 = dktX1_tuner_1 := dk_seg dksX1_tuner_0 24 rfl rfl
theorem dksX1_tuner_2 : cX1_tuner.data.toList.drop 47 = dktX1_tuner_2 := dk_seg dksX1_tuner_1 23 rfl rfl
theorem dksX1_tuner_3 : cX1_tuner.data.toList.drop 69 = dktX1_tuner_3 := dk_seg dksX1_tuner_2 22 rfl rfl
theorem dksX1_tuner_4 : cX1_tuner.data.toList.drop 91 = dktX1_tuner_4 := dk_seg dksX1_tuner_3 22 rfl rfl
theorem dksX1_tuner_5 : cX1_tuner.data.toList.drop 115 = dktX1_tuner_5 := dk_seg dksX1_tuner_4 24 rfl rfl
theorem dksX1_tuner_6 : cX1_tuner.data.toList.drop 137 = dktX1_tuner_6 := dk_seg dksX1_tuner_5 22 rfl rfl
theorem dksX1_tuner_7 : cX1_tuner.data.toList.drop 161 = dktX1_tuner_7 := dk_seg dksX1_tuner_6 24 rfl rfl
theorem dksX1_tuner_8 : cX1_tuner.data.toList.drop 185 = dktX1_tuner_8 := dk_seg dksX1_tuner_7 24 rfl rfl
theorem dX1_tuner_0 : decode cX1_tuner 0 = .ok (.aload_n 0, 1) := dk_42 (dk_at dksX1_tuner_0 0 rfl rfl)
theorem dX1_tuner_1 : decode cX1_tuner 1 = .ok (.iload_n 1, 1) := dk_27 (dk_at dksX1_tuner_0 1 rfl rfl)
theorem dX1_tuner_2 : decode cX1_tuner 2 = .ok (.iconst 0, 1) := dk_3 (dk_at dksX1_tuner_0 2 rfl rfl)
theorem dX1_tuner_3 : decode cX1_tuner 3 = .ok (.bipush 99, 2) := dk_16 99 (dk_at dksX1_tuner_0 3 rfl rfl)
theorem dX1_tuner_5 : decode cX1_tuner 5 = .ok (.invokestatic 246, 3) := dk_184 0 246 (dk_at dksX1_tuner_0 5 rfl rfl)
theorem dX1_tuner_8 : decode cX1_tuner 8 = .ok (.ifCond .eq 26, 3) := dk_153 0 26 (dk_at dksX1_tuner_0 8 rfl rfl)
theorem dX1_tuner_11 : decode cX1_tuner 11 = .ok (.iload_n 2, 1) := dk_28 (dk_at dksX1_tuner_0 11 rfl rfl)
theorem dX1_tuner_12 : decode cX1_tuner 12 = .ok (.iconst 0, 1) := dk_3 (dk_at dksX1_tuner_0 12 rfl rfl)
theorem dX1_tuner_13 : decode cX1_tuner 13 = .ok (.bipush 99, 2) := dk_16 99 (dk_at dksX1_tuner_0 13 rfl rfl)
theorem dX1_tuner_15 : decode cX1_tuner 15 = .ok (.invokestatic 246, 3) := dk_184 0 246 (dk_at dksX1_tuner_0 15 rfl rfl)
theorem dX1_tuner_18 : decode cX1_tuner 18 = .ok (.ifCond .eq 16, 3) := dk_153 0 16 (dk_at dksX1_tuner_0 18 rfl rfl)
theorem dX1_tuner_21 : decode cX1_tuner 21 = .ok (.iload_n 3, 1) := dk_29 (dk_at dksX1_tuner_0 21 rfl rfl)
theorem dX1_tuner_22 : decode cX1_tuner 22 = .ok (.iconst 0, 1) := dk_3 (dk_at dksX1_tuner_0 22 rfl rfl)
theorem dX1_tuner_23 : decode cX1_tuner 23 = .ok (.iconst 2, 1) := dk_5 (dk_at dksX1_tuner_0 23 rfl rfl)
theorem dX1_tuner_24 : decode cX1_tuner 24 = .ok (.invokestatic 246, 3) := dk_184 0 246 (dk_at dksX1_tuner_1 0 rfl rfl)
theorem dX1_tuner_27 : decode cX1_tuner 27 = .ok (.ifCond .eq 7, 3) := dk_153 0 7 (dk_at dksX1_tuner_1 3 rfl rfl)
theorem dX1_tuner_30 : decode cX1_tuner 30 = .ok (.iconst 1, 1) := dk_4 (dk_at dksX1_tuner_1 6 rfl rfl)
theorem dX1_tuner_31 : decode cX1_tuner 31 = .ok (.goto 4, 3) := dk_167 0 4 (dk_at dksX1_tuner_1 7 rfl rfl)
theorem dX1_tuner_34 : decode cX1_tuner 34 = .ok (.iconst 0, 1) := dk_3 (dk_at dksX1_tuner_1 10 rfl rfl)
theorem dX1_tuner_35 : decode cX1_tuner 35 = .ok (.invokevirtual 172, 3) := dk_182 0 172 (dk_at dksX1_tuner_1 11 rfl rfl)
theorem dX1_tuner_38 : decode cX1_tuner 38 = .ok (.iconst 0, 1) := dk_3 (dk_at dksX1_tuner_1 14 rfl rfl)
theorem dX1_tuner_39 : decode cX1_tuner 39 = .ok (.istore 4, 2) := dk_54 4 (dk_at dksX1_tuner_1 15 rfl rfl)
theorem dX1_tuner_41 : decode cX1_tuner 41 = .ok (.iconst (-1), 1) := dk_2 (dk_at dksX1_tuner_1 17 rfl rfl)
theorem dX1_tuner_42 : decode cX1_tuner 42 = .ok (.istore 5, 2) := dk_54 5 (dk_at dksX1_tuner_1 18 rfl rfl)
theorem dX1_tuner_44 : decode cX1_tuner 44 = .ok (.iconst 0, 1) := dk_3 (dk_at dksX1_tuner_1 20 rfl rfl)
theorem dX1_tuner_45 : decode cX1_tuner 45 = .ok (.istore 6, 2) := dk_54 6 (dk_at dksX1_tuner_1 21 rfl rfl)
theorem dX1_tuner_47 : decode cX1_tuner 47 = .ok (.iload 6, 2) := dk_21 6 (dk_at dksX1_tuner_2 0 rfl rfl)
theorem dX1_tuner_49 : decode cX1_tuner 49 = .ok (.iconst 1, 1) := dk_4 (dk_at dksX1_tuner_2 2 rfl rfl)
theorem dX1_tuner_50 : decode cX1_tuner 50 = .ok (.if_icmp .gt 90, 3) := dk_163 0 90 (dk_at dksX1_tuner_2 3 rfl rfl)
theorem dX1_tuner_53 : decode cX1_tuner 53 = .ok (.iconst 0, 1) := dk_3 (dk_at dksX1_tuner_2 6 rfl rfl)
theorem dX1_tuner_54 : decode cX1_tuner 54 = .ok (.istore 7, 2) := dk_54 7 (dk_at dksX1_tuner_2 7 rfl rfl)
theorem dX1_tuner_56 : decode cX1_tuner 56 = .ok (.iload 7, 2) := dk_21 7 (dk_at dksX1_tuner_2 9 rfl rfl)
theorem dX1_tuner_58 : decode cX1_tuner 58 = .ok (.iconst 1, 1) := dk_4 (dk_at dksX1_tuner_2 11 rfl rfl)
theorem dX1_tuner_59 : decode cX1_tuner 59 = .ok (.if_icmp .gt 75, 3) := dk_163 0 75 (dk_at dksX1_tuner_2 12 rfl rfl)
theorem dX1_tuner_62 : decode cX1_tuner 62 = .ok (.iconst 1, 1) := dk_4 (dk_at dksX1_tuner_2 15 rfl rfl)
theorem dX1_tuner_63 : decode cX1_tuner 63 = .ok (.iload 6, 2) := dk_21 6 (dk_at dksX1_tuner_2 16 rfl rfl)
theorem dX1_tuner_65 : decode cX1_tuner 65 = .ok (.isub, 1) := dk_100 (dk_at dksX1_tuner_2 18 rfl rfl)
theorem dX1_tuner_66 : decode cX1_tuner 66 = .ok (.iload 7, 2) := dk_21 7 (dk_at dksX1_tuner_2 19 rfl rfl)
theorem dX1_tuner_68 : decode cX1_tuner 68 = .ok (.iload_n 1, 1) := dk_27 (dk_at dksX1_tuner_2 21 rfl rfl)
theorem dX1_tuner_69 : decode cX1_tuner 69 = .ok (.invokestatic 388, 3) := dk_184 1 132 (dk_at dksX1_tuner_3 0 rfl rfl)
theorem dX1_tuner_72 : decode cX1_tuner 72 = .ok (.iload 6, 2) := dk_21 6 (dk_at dksX1_tuner_3 3 rfl rfl)
theorem dX1_tuner_74 : decode cX1_tuner 74 = .ok (.iload 7, 2) := dk_21 7 (dk_at dksX1_tuner_3 5 rfl rfl)
theorem dX1_tuner_76 : decode cX1_tuner 76 = .ok (.iload_n 1, 1) := dk_27 (dk_at dksX1_tuner_3 7 rfl rfl)
theorem dX1_tuner_77 : decode cX1_tuner 77 = .ok (.invokestatic 388, 3) := dk_184 1 132 (dk_at dksX1_tuner_3 8 rfl rfl)
theorem dX1_tuner_80 : decode cX1_tuner 80 = .ok (.if_icmp .gt 48, 3) := dk_163 0 48 (dk_at dksX1_tuner_3 11 rfl rfl)
theorem dX1_tuner_83 : decode cX1_tuner 83 = .ok (.iload 6, 2) := dk_21 6 (dk_at dksX1_tuner_3 14 rfl rfl)
theorem dX1_tuner_85 : decode cX1_tuner 85 = .ok (.iconst 1, 1) := dk_4 (dk_at dksX1_tuner_3 16 rfl rfl)
theorem dX1_tuner_86 : decode cX1_tuner 86 = .ok (.iload 7, 2) := dk_21 7 (dk_at dksX1_tuner_3 17 rfl rfl)
theorem dX1_tuner_88 : decode cX1_tuner 88 = .ok (.isub, 1) := dk_100 (dk_at dksX1_tuner_3 19 rfl rfl)
theorem dX1_tuner_89 : decode cX1_tuner 89 = .ok (.iload_n 1, 1) := dk_27 (dk_at dksX1_tuner_3 20 rfl rfl)
theorem dX1_tuner_90 : decode cX1_tuner 90 = .ok (.iload_n 2, 1) := dk_28 (dk_at dksX1_tuner_3 21 rfl rfl)
theorem dX1_tuner_91 : decode cX1_tuner 91 = .ok (.invokestatic 392, 3) := dk_184 1 136 (dk_at dksX1_tuner_4 0 rfl rfl)
theorem dX1_tuner_94 : decode cX1_tuner 94 = .ok (.iload 6, 2) := dk_21 6 (dk_at dksX1_tuner_4 3 rfl rfl)
theorem dX1_tuner_96 : decode cX1_tuner 96 = .ok (.iload 7, 2) := dk_21 7 (dk_at dksX1_tuner_4 5 rfl rfl)
theorem dX1_tuner_98 : decode cX1_tuner 98 = .ok (.iload_n 1, 1) := dk_27 (dk_at dksX1_tuner_4 7 rfl rfl)
theorem dX1_tuner_99 : decode cX1_tuner 99 = .ok (.iload_n 2, 1) := dk_28 (dk_at dksX1_tuner_4 8 rfl rfl)
theorem dX1_tuner_100 : decode cX1_tuner 100 = .ok (.invokestatic 392, 3) := dk_184 1 136 (dk_at dksX1_tuner_4 9 rfl rfl)
theorem dX1_tuner_103 : decode cX1_tuner 103 = .ok (.if_icmp .le 6, 3) := dk_164 0 6 (dk_at dksX1_tuner_4 12 rfl rfl)
theorem dX1_tuner_106 : decode cX1_tuner 106 = .ok (.goto 22, 3) := dk_167 0 22 (dk_at dksX1_tuner_4 15 rfl rfl)
theorem dX1_tuner_109 : decode cX1_tuner 109 = .ok (.iinc 4 1, 3) := dk_132 4 1 (dk_at dksX1_tuner_4 18 rfl rfl)
theorem dX1_tuner_112 : decode cX1_tuner 112 = .ok (.iload 5, 2) := dk_21 5 (dk_at dksX1_tuner_4 21 rfl rfl)
theorem dX1_tuner_114 : decode cX1_tuner 114 = .ok (.iconst (-1), 1) := dk_2 (dk_at dksX1_tuner_4 23 rfl rfl)
theorem dX1_tuner_115 : decode cX1_tuner 115 = .ok (.if_icmp .ne 13, 3) := dk_160 0 13 (dk_at dksX1_tuner_5 0 rfl rfl)
theorem dX1_tuner_118 : decode cX1_tuner 118 = .ok (.bipush 10, 2) := dk_16 10 (dk_at dksX1_tuner_5 3 rfl rfl)
theorem dX1_tuner_120 : decode cX1_tuner 120 = .ok (.iload 6, 2) := dk_21 6 (dk_at dksX1_tuner_5 5 rfl rfl)
theorem dX1_tuner_122 : decode cX1_tuner 122 = .ok (.imul, 1) := dk_104 (dk_at dksX1_tuner_5 7 rfl rfl)
theorem dX1_tuner_123 : decode cX1_tuner 123 = .ok (.iload 7, 2) := dk_21 7 (dk_at dksX1_tuner_5 8 rfl rfl)
theorem dX1_tuner_125 : decode cX1_tuner 125 = .ok (.iadd, 1) := dk_96 (dk_at dksX1_tuner_5 10 rfl rfl)
theorem dX1_tuner_126 : decode cX1_tuner 126 = .ok (.istore 5, 2) := dk_54 5 (dk_at dksX1_tuner_5 11 rfl rfl)
theorem dX1_tuner_128 : decode cX1_tuner 128 = .ok (.iinc 7 1, 3) := dk_132 7 1 (dk_at dksX1_tuner_5 13 rfl rfl)
theorem dX1_tuner_131 : decode cX1_tuner 131 = .ok (.goto (-75), 3) := dk_167 255 181 (dk_at dksX1_tuner_5 16 rfl rfl)
theorem dX1_tuner_134 : decode cX1_tuner 134 = .ok (.iinc 6 1, 3) := dk_132 6 1 (dk_at dksX1_tuner_5 19 rfl rfl)
theorem dX1_tuner_137 : decode cX1_tuner 137 = .ok (.goto (-90), 3) := dk_167 255 166 (dk_at dksX1_tuner_6 0 rfl rfl)
theorem dX1_tuner_140 : decode cX1_tuner 140 = .ok (.iload_n 3, 1) := dk_29 (dk_at dksX1_tuner_6 3 rfl rfl)
theorem dX1_tuner_141 : decode cX1_tuner 141 = .ok (.ifCond .ne 8, 3) := dk_154 0 8 (dk_at dksX1_tuner_6 4 rfl rfl)
theorem dX1_tuner_144 : decode cX1_tuner 144 = .ok (.iload 4, 2) := dk_21 4 (dk_at dksX1_tuner_6 7 rfl rfl)
theorem dX1_tuner_146 : decode cX1_tuner 146 = .ok (.goto 53, 3) := dk_167 0 53 (dk_at dksX1_tuner_6 9 rfl rfl)
theorem dX1_tuner_149 : decode cX1_tuner 149 = .ok (.iload_n 3, 1) := dk_29 (dk_at dksX1_tuner_6 12 rfl rfl)
theorem dX1_tuner_150 : decode cX1_tuner 150 = .ok (.iconst 1, 1) := dk_4 (dk_at dksX1_tuner_6 13 rfl rfl)
theorem dX1_tuner_151 : decode cX1_tuner 151 = .ok (.if_icmp .ne 8, 3) := dk_160 0 8 (dk_at dksX1_tuner_6 14 rfl rfl)
theorem dX1_tuner_154 : decode cX1_tuner 154 = .ok (.iload 5, 2) := dk_21 5 (dk_at dksX1_tuner_6 17 rfl rfl)
theorem dX1_tuner_156 : decode cX1_tuner 156 = .ok (.goto 43, 3) := dk_167 0 43 (dk_at dksX1_tuner_6 19 rfl rfl)
theorem dX1_tuner_159 : decode cX1_tuner 159 = .ok (.iload 5, 2) := dk_21 5 (dk_at dksX1_tuner_6 22 rfl rfl)
theorem dX1_tuner_161 : decode cX1_tuner 161 = .ok (.iconst (-1), 1) := dk_2 (dk_at dksX1_tuner_7 0 rfl rfl)
theorem dX1_tuner_162 : decode cX1_tuner 162 = .ok (.if_icmp .ne 7, 3) := dk_160 0 7 (dk_at dksX1_tuner_7 1 rfl rfl)
theorem dX1_tuner_165 : decode cX1_tuner 165 = .ok (.iconst 0, 1) := dk_3 (dk_at dksX1_tuner_7 4 rfl rfl)
theorem dX1_tuner_166 : decode cX1_tuner 166 = .ok (.goto 33, 3) := dk_167 0 33 (dk_at dksX1_tuner_7 5 rfl rfl)
theorem dX1_tuner_169 : decode cX1_tuner 169 = .ok (.iload 5, 2) := dk_21 5 (dk_at dksX1_tuner_7 8 rfl rfl)
theorem dX1_tuner_171 : decode cX1_tuner 171 = .ok (.bipush 10, 2) := dk_16 10 (dk_at dksX1_tuner_7 10 rfl rfl)
theorem dX1_tuner_173 : decode cX1_tuner 173 = .ok (.idiv, 1) := dk_108 (dk_at dksX1_tuner_7 12 rfl rfl)
theorem dX1_tuner_174 : decode cX1_tuner 174 = .ok (.iload 5, 2) := dk_21 5 (dk_at dksX1_tuner_7 13 rfl rfl)
theorem dX1_tuner_176 : decode cX1_tuner 176 = .ok (.bipush 10, 2) := dk_16 10 (dk_at dksX1_tuner_7 15 rfl rfl)
theorem dX1_tuner_178 : decode cX1_tuner 178 = .ok (.irem, 1) := dk_112 (dk_at dksX1_tuner_7 17 rfl rfl)
theorem dX1_tuner_179 : decode cX1_tuner 179 = .ok (.iload_n 1, 1) := dk_27 (dk_at dksX1_tuner_7 18 rfl rfl)
theorem dX1_tuner_180 : decode cX1_tuner 180 = .ok (.invokestatic 388, 3) := dk_184 1 132 (dk_at dksX1_tuner_7 19 rfl rfl)
theorem dX1_tuner_183 : decode cX1_tuner 183 = .ok (.iload 5, 2) := dk_21 5 (dk_at dksX1_tuner_7 22 rfl rfl)
theorem dX1_tuner_185 : decode cX1_tuner 185 = .ok (.bipush 10, 2) := dk_16 10 (dk_at dksX1_tuner_8 0 rfl rfl)
theorem dX1_tuner_187 : decode cX1_tuner 187 = .ok (.idiv, 1) := dk_108 (dk_at dksX1_tuner_8 2 rfl rfl)
theorem dX1_tuner_188 : decode cX1_tuner 188 = .ok (.iload 5, 2) := dk_21 5 (dk_at dksX1_tuner_8 3 rfl rfl)
theorem dX1_tuner_190 : decode cX1_tuner 190 = .ok (.bipush 10, 2) := dk_16 10 (dk_at dksX1_tuner_8 5 rfl rfl)
theorem dX1_tuner_192 : decode cX1_tuner 192 = .ok (.irem, 1) := dk_112 (dk_at dksX1_tuner_8 7 rfl rfl)
theorem dX1_tuner_193 : decode cX1_tuner 193 = .ok (.iload_n 1, 1) := dk_27 (dk_at dksX1_tuner_8 8 rfl rfl)
theorem dX1_tuner_194 : decode cX1_tuner 194 = .ok (.iload_n 2, 1) := dk_28 (dk_at dksX1_tuner_8 9 rfl rfl)
theorem dX1_tuner_195 : decode cX1_tuner 195 = .ok (.invokestatic 392, 3) := dk_184 1 136 (dk_at dksX1_tuner_8 10 rfl rfl)
theorem dX1_tuner_198 : decode cX1_tuner 198 = .ok (.iadd, 1) := dk_96 (dk_at dksX1_tuner_8 13 rfl rfl)
theorem dX1_tuner_199 : decode cX1_tuner 199 = .ok (.ireturn, 1) := dk_172 (dk_at dksX1_tuner_8 14 rfl rfl)
abbrev cX1_heHas : ByteArray := prog_1_method_58_code
def yX1_heHas : MethodName := ⟨RX1, "heHas", "(III)I"⟩
def dkwX1_heHas_0 : List UInt8 := [26, 4, 160, 0, 7, 3, 167, 0, 12, 27, 154, 0, 7, 28, 167, 0, 4, 2, 172]
abbrev dktX1_heHas_0 : List UInt8 := dkwX1_heHas_0 ++ []
theorem dksX1_heHas_0 : cX1_heHas.data.toList.drop 0 = dktX1_heHas_0 := by decide +kernel
theorem dX1_heHas_0 : decode cX1_heHas 0 = .ok (.iload_n 0, 1) := dk_26 (dk_at dksX1_heHas_0 0 rfl rfl)
theorem dX1_heHas_1 : decode cX1_heHas 1 = .ok (.iconst 1, 1) := dk_4 (dk_at dksX1_heHas_0 1 rfl rfl)
theorem dX1_heHas_2 : decode cX1_heHas 2 = .ok (.if_icmp .ne 7, 3) := dk_160 0 7 (dk_at dksX1_heHas_0 2 rfl rfl)
theorem dX1_heHas_5 : decode cX1_heHas 5 = .ok (.iconst 0, 1) := dk_3 (dk_at dksX1_heHas_0 5 rfl rfl)
theorem dX1_heHas_6 : decode cX1_heHas 6 = .ok (.goto 12, 3) := dk_167 0 12 (dk_at dksX1_heHas_0 6 rfl rfl)
theorem dX1_heHas_9 : decode cX1_heHas 9 = .ok (.iload_n 1, 1) := dk_27 (dk_at dksX1_heHas_0 9 rfl rfl)
theorem dX1_heHas_10 : decode cX1_heHas 10 = .ok (.ifCond .ne 7, 3) := dk_154 0 7 (dk_at dksX1_heHas_0 10 rfl rfl)
theorem dX1_heHas_13 : decode cX1_heHas 13 = .ok (.iload_n 2, 1) := dk_28 (dk_at dksX1_heHas_0 13 rfl rfl)
theorem dX1_heHas_14 : decode cX1_heHas 14 = .ok (.goto 4, 3) := dk_167 0 4 (dk_at dksX1_heHas_0 14 rfl rfl)
theorem dX1_heHas_17 : decode cX1_heHas 17 = .ok (.iconst (-1), 1) := dk_2 (dk_at dksX1_heHas_0 17 rfl rfl)
theorem dX1_heHas_18 : decode cX1_heHas 18 = .ok (.ireturn, 1) := dk_172 (dk_at dksX1_heHas_0 18 rfl rfl)
abbrev cX1_itHas : ByteArray := prog_1_method_59_code
def yX1_itHas : MethodName := ⟨RX1, "itHas", "(IIII)I"⟩
def dkwX1_itHas_0 : List UInt8 := [27, 4, 160, 0, 7, 3, 167, 0, 12, 26, 154, 0, 7, 28, 167, 0, 4, 29, 172]
abbrev dktX1_itHas_0 : List UInt8 := dkwX1_itHas_0 ++ []
theorem dksX1_itHas_0 : cX1_itHas.data.toList.drop 0 = dktX1_itHas_0 := by decide +kernel
theorem dX1_itHas_0 : decode cX1_itHas 0 = .ok (.iload_n 1, 1) := dk_27 (dk_at dksX1_itHas_0 0 rfl rfl)
theorem dX1_itHas_1 : decode cX1_itHas 1 = .ok (.iconst 1, 1) := dk_4 (dk_at dksX1_itHas_0 1 rfl rfl)
theorem dX1_itHas_2 : decode cX1_itHas 2 = .ok (.if_icmp .ne 7, 3) := dk_160 0 7 (dk_at dksX1_itHas_0 2 rfl rfl)
theorem dX1_itHas_5 : decode cX1_itHas 5 = .ok (.iconst 0, 1) := dk_3 (dk_at dksX1_itHas_0 5 rfl rfl)
theorem dX1_itHas_6 : decode cX1_itHas 6 = .ok (.goto 12, 3) := dk_167 0 12 (dk_at dksX1_itHas_0 6 rfl rfl)
theorem dX1_itHas_9 : decode cX1_itHas 9 = .ok (.iload_n 0, 1) := dk_26 (dk_at dksX1_itHas_0 9 rfl rfl)
theorem dX1_itHas_10 : decode cX1_itHas 10 = .ok (.ifCond .ne 7, 3) := dk_154 0 7 (dk_at dksX1_itHas_0 10 rfl rfl)
theorem dX1_itHas_13 : decode cX1_itHas 13 = .ok (.iload_n 2, 1) := dk_28 (dk_at dksX1_itHas_0 13 rfl rfl)
theorem dX1_itHas_14 : decode cX1_itHas 14 = .ok (.goto 4, 3) := dk_167 0 4 (dk_at dksX1_itHas_0 14 rfl rfl)
theorem dX1_itHas_17 : decode cX1_itHas 17 = .ok (.iload_n 3, 1) := dk_29 (dk_at dksX1_itHas_0 17 rfl rfl)
theorem dX1_itHas_18 : decode cX1_itHas 18 = .ok (.ireturn, 1) := dk_172 (dk_at dksX1_itHas_0 18 rfl rfl)
abbrev cX1_share : ByteArray := prog_1_method_62_code
def yX1_share : MethodName := ⟨RX1, "share", "(III)I"⟩
def dkwX1_share_3 : List UInt8 := [153, 0, 19, 21, 4, 42, 27, 182, 1, 52, 180, 1, 58, 184, 0, 134, 167, 0, 4, 3, 172]
abbrev dktX1_share_3 : List UInt8 := dkwX1_share_3 ++ []
def dkwX1_share_2 : List UInt8 := [42, 28, 21, 4, 4, 96, 182, 1, 140, 29, 163, 0, 9, 132, 4, 1, 167, 255, 233, 28, 27, 184, 1, 93]
abbrev dktX1_share_2 : List UInt8 := dkwX1_share_2 ++ dktX1_share_3
def dkwX1_share_1 : List UInt8 := [184, 0, 246, 153, 0, 7, 4, 167, 0, 4, 3, 182, 0, 172, 3, 54, 4, 21, 4, 16, 9, 162, 0, 22]
abbrev dktX1_share_1 : List UInt8 := dkwX1_share_1 ++ dktX1_share_2
def dkwX1_share_0 : List UInt8 := [42, 27, 182, 1, 49, 42, 28, 155, 0, 27, 28, 4, 42, 182, 0, 156, 120, 162, 0, 17, 29, 3, 16, 99]
abbrev dktX1_share_0 : List UInt8 := dkwX1_share_0 ++ dktX1_share_1
theorem dksX1_share_0 : cX1_share.data.toList.drop 0 = dktX1_share_0 := by decide +kernel
theorem dksX1_share_1 : cX1_share.data.toList.drop 24 = dktX1_share_1 := dk_seg dksX1_share_0 24 rfl rfl
theorem dksX1_share_2 : cX1_share.data.toList.drop 48 = dktX1_share_2 := dk_seg dksX1_share_1 24 rfl rfl
theorem dksX1_share_3 : cX1_share.data.toList.drop 72 = dktX1_share_3 := dk_seg dksX1_share_2 24 rfl rfl
theorem dX1_share_0 : decode cX1_share 0 = .ok (.aload_n 0, 1) := dk_42 (dk_at dksX1_share_0 0 rfl rfl)
theorem dX1_share_1 : decode cX1_share 1 = .ok (.iload_n 1, 1) := dk_27 (dk_at dksX1_share_0 1 rfl rfl)
theorem dX1_share_2 : decode cX1_share 2 = .ok (.invokevirtual 305, 3) := dk_182 1 49 (dk_at dksX1_share_0 2 rfl rfl)
theorem dX1_share_5 : decode cX1_share 5 = .ok (.aload_n 0, 1) := dk_42 (dk_at dksX1_share_0 5 rfl rfl)
theorem dX1_share_6 : decode cX1_share 6 = .ok (.iload_n 2, 1) := dk_28 (dk_at dksX1_share_0 6 rfl rfl)
theorem dX1_share_7 : decode cX1_share 7 = .ok (.ifCond .lt 27, 3) := dk_155 0 27 (dk_at dksX1_share_0 7 rfl rfl)
theorem dX1_share_10 : decode cX1_share 10 = .ok (.iload_n 2, 1) := dk_28 (dk_at dksX1_share_0 10 rfl rfl)
theorem dX1_share_11 : decode cX1_share 11 = .ok (.iconst 1, 1) := dk_4 (dk_at dksX1_share_0 11 rfl rfl)
theorem dX1_share_12 : decode cX1_share 12 = .ok (.aload_n 0, 1) := dk_42 (dk_at dksX1_share_0 12 rfl rfl)
theorem dX1_share_13 : decode cX1_share 13 = .ok (.invokevirtual 156, 3) := dk_182 0 156 (dk_at dksX1_share_0 13 rfl rfl)
theorem dX1_share_16 : decode cX1_share 16 = .ok (.ishl, 1) := dk_120 (dk_at dksX1_share_0 16 rfl rfl)
theorem dX1_share_17 : decode cX1_share 17 = .ok (.if_icmp .ge 17, 3) := dk_162 0 17 (dk_at dksX1_share_0 17 rfl rfl)
theorem dX1_share_20 : decode cX1_share 20 = .ok (.iload_n 3, 1) := dk_29 (dk_at dksX1_share_0 20 rfl rfl)
theorem dX1_share_21 : decode cX1_share 21 = .ok (.iconst 0, 1) := dk_3 (dk_at dksX1_share_0 21 rfl rfl)
theorem dX1_share_22 : decode cX1_share 22 = .ok (.bipush 99, 2) := dk_16 99 (dk_at dksX1_share_0 22 rfl rfl)
theorem dX1_share_24 : decode cX1_share 24 = .ok (.invokestatic 246, 3) := dk_184 0 246 (dk_at dksX1_share_1 0 rfl rfl)
theorem dX1_share_27 : decode cX1_share 27 = .ok (.ifCond .eq 7, 3) := dk_153 0 7 (dk_at dksX1_share_1 3 rfl rfl)
theorem dX1_share_30 : decode cX1_share 30 = .ok (.iconst 1, 1) := dk_4 (dk_at dksX1_share_1 6 rfl rfl)
theorem dX1_share_31 : decode cX1_share 31 = .ok (.goto 4, 3) := dk_167 0 4 (dk_at dksX1_share_1 7 rfl rfl)
theorem dX1_share_34 : decode cX1_share 34 = .ok (.iconst 0, 1) := dk_3 (dk_at dksX1_share_1 10 rfl rfl)
theorem dX1_share_35 : decode cX1_share 35 = .ok (.invokevirtual 172, 3) := dk_182 0 172 (dk_at dksX1_share_1 11 rfl rfl)
theorem dX1_share_38 : decode cX1_share 38 = .ok (.iconst 0, 1) := dk_3 (dk_at dksX1_share_1 14 rfl rfl)
theorem dX1_share_39 : decode cX1_share 39 = .ok (.istore 4, 2) := dk_54 4 (dk_at dksX1_share_1 15 rfl rfl)
theorem dX1_share_41 : decode cX1_share 41 = .ok (.iload 4, 2) := dk_21 4 (dk_at dksX1_share_1 17 rfl rfl)
theorem dX1_share_43 : decode cX1_share 43 = .ok (.bipush 9, 2) := dk_16 9 (dk_at dksX1_share_1 19 rfl rfl)
theorem dX1_share_45 : decode cX1_share 45 = .ok (.if_icmp .ge 22, 3) := dk_162 0 22 (dk_at dksX1_share_1 21 rfl rfl)
theorem dX1_share_48 : decode cX1_share 48 = .ok (.aload_n 0, 1) := dk_42 (dk_at dksX1_share_2 0 rfl rfl)
theorem dX1_share_49 : decode cX1_share 49 = .ok (.iload_n 2, 1) := dk_28 (dk_at dksX1_share_2 1 rfl rfl)
theorem dX1_share_50 : decode cX1_share 50 = .ok (.iload 4, 2) := dk_21 4 (dk_at dksX1_share_2 2 rfl rfl)
theorem dX1_share_52 : decode cX1_share 52 = .ok (.iconst 1, 1) := dk_4 (dk_at dksX1_share_2 4 rfl rfl)
theorem dX1_share_53 : decode cX1_share 53 = .ok (.iadd, 1) := dk_96 (dk_at dksX1_share_2 5 rfl rfl)
theorem dX1_share_54 : decode cX1_share 54 = .ok (.invokevirtual 396, 3) := dk_182 1 140 (dk_at dksX1_share_2 6 rfl rfl)
theorem dX1_share_57 : decode cX1_share 57 = .ok (.iload_n 3, 1) := dk_29 (dk_at dksX1_share_2 9 rfl rfl)
theorem dX1_share_58 : decode cX1_share 58 = .ok (.if_icmp .gt 9, 3) := dk_163 0 9 (dk_at dksX1_share_2 10 rfl rfl)
theorem dX1_share_61 : decode cX1_share 61 = .ok (.iinc 4 1, 3) := dk_132 4 1 (dk_at dksX1_share_2 13 rfl rfl)
theorem dX1_share_64 : decode cX1_share 64 = .ok (.goto (-23), 3) := dk_167 255 233 (dk_at dksX1_share_2 16 rfl rfl)
theorem dX1_share_67 : decode cX1_share 67 = .ok (.iload_n 2, 1) := dk_28 (dk_at dksX1_share_2 19 rfl rfl)
theorem dX1_share_68 : decode cX1_share 68 = .ok (.iload_n 1, 1) := dk_27 (dk_at dksX1_share_2 20 rfl rfl)
theorem dX1_share_69 : decode cX1_share 69 = .ok (.invokestatic 349, 3) := dk_184 1 93 (dk_at dksX1_share_2 21 rfl rfl)
theorem dX1_share_72 : decode cX1_share 72 = .ok (.ifCond .eq 19, 3) := dk_153 0 19 (dk_at dksX1_share_3 0 rfl rfl)
theorem dX1_share_75 : decode cX1_share 75 = .ok (.iload 4, 2) := dk_21 4 (dk_at dksX1_share_3 3 rfl rfl)
theorem dX1_share_77 : decode cX1_share 77 = .ok (.aload_n 0, 1) := dk_42 (dk_at dksX1_share_3 5 rfl rfl)
theorem dX1_share_78 : decode cX1_share 78 = .ok (.iload_n 1, 1) := dk_27 (dk_at dksX1_share_3 6 rfl rfl)
theorem dX1_share_79 : decode cX1_share 79 = .ok (.invokevirtual 308, 3) := dk_182 1 52 (dk_at dksX1_share_3 7 rfl rfl)
theorem dX1_share_82 : decode cX1_share 82 = .ok (.getfield 314, 3) := dk_180 1 58 (dk_at dksX1_share_3 10 rfl rfl)
theorem dX1_share_85 : decode cX1_share 85 = .ok (.invokestatic 134, 3) := dk_184 0 134 (dk_at dksX1_share_3 13 rfl rfl)
theorem dX1_share_88 : decode cX1_share 88 = .ok (.goto 4, 3) := dk_167 0 4 (dk_at dksX1_share_3 16 rfl rfl)
theorem dX1_share_91 : decode cX1_share 91 = .ok (.iconst 0, 1) := dk_3 (dk_at dksX1_share_3 19 rfl rfl)
theorem dX1_share_92 : decode cX1_share 92 = .ok (.ireturn, 1) := dk_172 (dk_at dksX1_share_3 20 rfl rfl)
abbrev cX1_given : ByteArray := prog_1_method_61_code
def yX1_given : MethodName := ⟨RX1, "given", "(II)I"⟩
def dkwX1_given_2 : List UInt8 := [167, 255, 215, 29, 172]
abbrev dktX1_given_2 : List UInt8 := dkwX1_given_2 ++ []
def dkwX1_given_1 : List UInt8 := [28, 42, 21, 4, 182, 1, 52, 180, 1, 58, 184, 0, 134, 167, 0, 4, 3, 96, 62, 132, 4, 1]
abbrev dktX1_given_1 : List UInt8 := dkwX1_given_1 ++ dktX1_given_2
def dkwX1_given_0 : List UInt8 := [3, 62, 3, 54, 4, 21, 4, 42, 182, 0, 156, 162, 0, 38, 29, 27, 21, 4, 184, 1, 93, 153, 0, 19]
abbrev dktX1_given_0 : List UInt8 := dkwX1_given_0 ++ dktX1_given_1
theorem dksX1_given_0 : cX1_given.data.toList.drop 0 = dktX1_given_0 := by decide +kernel
theorem dksX1_given_1 : cX1_given.data.toList.drop 24 = dktX1_given_1 := dk_seg dksX1_given_0 24 rfl rfl
theorem dksX1_given_2 : cX1_given.data.toList.drop 46 = dktX1_given_2 := dk_seg dksX1_given_1 22 rfl rfl
theorem dX1_given_0 : decode cX1_given 0 = .ok (.iconst 0, 1) := dk_3 (dk_at dksX1_given_0 0 rfl rfl)
theorem dX1_given_1 : decode cX1_given 1 = .ok (.istore_n 3, 1) := dk_62 (dk_at dksX1_given_0 1 rfl rfl)
theorem dX1_given_2 : decode cX1_given 2 = .ok (.iconst 0, 1) := dk_3 (dk_at dksX1_given_0 2 rfl rfl)
theorem dX1_given_3 : decode cX1_given 3 = .ok (.istore 4, 2) := dk_54 4 (dk_at dksX1_given_0 3 rfl rfl)
theorem dX1_given_5 : decode cX1_given 5 = .ok (.iload 4, 2) := dk_21 4 (dk_at dksX1_given_0 5 rfl rfl)
theorem dX1_given_7 : decode cX1_given 7 = .ok (.aload_n 0, 1) := dk_42 (dk_at dksX1_given_0 7 rfl rfl)
theorem dX1_given_8 : decode cX1_given 8 = .ok (.invokevirtual 156, 3) := dk_182 0 156 (dk_at dksX1_given_0 8 rfl rfl)
theorem dX1_given_11 : decode cX1_given 11 = .ok (.if_icmp .ge 38, 3) := dk_162 0 38 (dk_at dksX1_given_0 11 rfl rfl)
theorem dX1_given_14 : decode cX1_given 14 = .ok (.iload_n 3, 1) := dk_29 (dk_at dksX1_given_0 14 rfl rfl)
theorem dX1_given_15 : decode cX1_given 15 = .ok (.iload_n 1, 1) := dk_27 (dk_at dksX1_given_0 15 rfl rfl)
theorem dX1_given_16 : decode cX1_given 16 = .ok (.iload 4, 2) := dk_21 4 (dk_at dksX1_given_0 16 rfl rfl)
theorem dX1_given_18 : decode cX1_given 18 = .ok (.invokestatic 349, 3) := dk_184 1 93 (dk_at dksX1_given_0 18 rfl rfl)
theorem dX1_given_21 : decode cX1_given 21 = .ok (.ifCond .eq 19, 3) := dk_153 0 19 (dk_at dksX1_given_0 21 rfl rfl)
theorem dX1_given_24 : decode cX1_given 24 = .ok (.iload_n 2, 1) := dk_28 (dk_at dksX1_given_1 0 rfl rfl)
theorem dX1_given_25 : decode cX1_given 25 = .ok (.aload_n 0, 1) := dk_42 (dk_at dksX1_given_1 1 rfl rfl)
theorem dX1_given_26 : decode cX1_given 26 = .ok (.iload 4, 2) := dk_21 4 (dk_at dksX1_given_1 2 rfl rfl)
theorem dX1_given_28 : decode cX1_given 28 = .ok (.invokevirtual 308, 3) := dk_182 1 52 (dk_at dksX1_given_1 4 rfl rfl)
theorem dX1_given_31 : decode cX1_given 31 = .ok (.getfield 314, 3) := dk_180 1 58 (dk_at dksX1_given_1 7 rfl rfl)
theorem dX1_given_34 : decode cX1_given 34 = .ok (.invokestatic 134, 3) := dk_184 0 134 (dk_at dksX1_given_1 10 rfl rfl)
theorem dX1_given_37 : decode cX1_given 37 = .ok (.goto 4, 3) := dk_167 0 4 (dk_at dksX1_given_1 13 rfl rfl)
theorem dX1_given_40 : decode cX1_given 40 = .ok (.iconst 0, 1) := dk_3 (dk_at dksX1_given_1 16 rfl rfl)
theorem dX1_given_41 : decode cX1_given 41 = .ok (.iadd, 1) := dk_96 (dk_at dksX1_given_1 17 rfl rfl)
theorem dX1_given_42 : decode cX1_given 42 = .ok (.istore_n 3, 1) := dk_62 (dk_at dksX1_given_1 18 rfl rfl)
theorem dX1_given_43 : decode cX1_given 43 = .ok (.iinc 4 1, 3) := dk_132 4 1 (dk_at dksX1_given_1 19 rfl rfl)
theorem dX1_given_46 : decode cX1_given 46 = .ok (.goto (-41), 3) := dk_167 255 215 (dk_at dksX1_given_2 0 rfl rfl)
theorem dX1_given_49 : decode cX1_given 49 = .ok (.iload_n 3, 1) := dk_29 (dk_at dksX1_given_2 3 rfl rfl)
theorem dX1_given_50 : decode cX1_given 50 = .ok (.ireturn, 1) := dk_172 (dk_at dksX1_given_2 4 rfl rfl)
abbrev cX1_those : ByteArray := prog_1_method_35_code
def yX1_those : MethodName := ⟨RX1, "those", "(I)I"⟩
def dkwX1_those_2 : List UInt8 := [167, 255, 220, 28, 172]
abbrev dktX1_those_2 : List UInt8 := dkwX1_those_2 ++ []
def dkwX1_those_1 : List UInt8 := [42, 180, 0, 49, 29, 182, 1, 21, 27, 160, 0, 9, 4, 29, 120, 167, 0, 4, 3, 128, 61, 132, 3, 1]
abbrev dktX1_those_1 : List UInt8 := dkwX1_those_1 ++ dktX1_those_2
def dkwX1_those_0 : List UInt8 := [42, 27, 184, 1, 36, 182, 0, 172, 3, 61, 3, 62, 29, 42, 180, 0, 22, 180, 0, 149, 162, 0, 31, 28]
abbrev dktX1_those_0 : List UInt8 := dkwX1_those_0 ++ dktX1_those_1
theorem dksX1_those_0 : cX1_those.data.toList.drop 0 = dktX1_those_0 := by decide +kernel
theorem dksX1_those_1 : cX1_those.data.toList.drop 24 = dktX1_those_1 := dk_seg dksX1_those_0 24 rfl rfl
theorem dksX1_those_2 : cX1_those.data.toList.drop 48 = dktX1_those_2 := dk_seg dksX1_those_1 24 rfl rfl
theorem dX1_those_0 : decode cX1_those 0 = .ok (.aload_n 0, 1) := dk_42 (dk_at dksX1_those_0 0 rfl rfl)
theorem dX1_those_1 : decode cX1_those 1 = .ok (.iload_n 1, 1) := dk_27 (dk_at dksX1_those_0 1 rfl rfl)
theorem dX1_those_2 : decode cX1_those 2 = .ok (.invokestatic 292, 3) := dk_184 1 36 (dk_at dksX1_those_0 2 rfl rfl)
theorem dX1_those_5 : decode cX1_those 5 = .ok (.invokevirtual 172, 3) := dk_182 0 172 (dk_at dksX1_those_0 5 rfl rfl)
theorem dX1_those_8 : decode cX1_those 8 = .ok (.iconst 0, 1) := dk_3 (dk_at dksX1_those_0 8 rfl rfl)
theorem dX1_those_9 : decode cX1_those 9 = .ok (.istore_n 2, 1) := dk_61 (dk_at dksX1_those_0 9 rfl rfl)
theorem dX1_those_10 : decode cX1_those 10 = .ok (.iconst 0, 1) := dk_3 (dk_at dksX1_those_0 10 rfl rfl)
theorem dX1_those_11 : decode cX1_those 11 = .ok (.istore_n 3, 1) := dk_62 (dk_at dksX1_those_0 11 rfl rfl)
theorem dX1_those_12 : decode cX1_those 12 = .ok (.iload_n 3, 1) := dk_29 (dk_at dksX1_those_0 12 rfl rfl)
theorem dX1_those_13 : decode cX1_those 13 = .ok (.aload_n 0, 1) := dk_42 (dk_at dksX1_those_0 13 rfl rfl)
theorem dX1_those_14 : decode cX1_those 14 = .ok (.getfield 22, 3) := dk_180 0 22 (dk_at dksX1_those_0 14 rfl rfl)
theorem dX1_those_17 : decode cX1_those 17 = .ok (.getfield 149, 3) := dk_180 0 149 (dk_at dksX1_those_0 17 rfl rfl)
theorem dX1_those_20 : decode cX1_those 20 = .ok (.if_icmp .ge 31, 3) := dk_162 0 31 (dk_at dksX1_those_0 20 rfl rfl)
theorem dX1_those_23 : decode cX1_those 23 = .ok (.iload_n 2, 1) := dk_28 (dk_at dksX1_those_0 23 rfl rfl)
theorem dX1_those_24 : decode cX1_those 24 = .ok (.aload_n 0, 1) := dk_42 (dk_at dksX1_those_1 0 rfl rfl)
theorem dX1_those_25 : decode cX1_those 25 = .ok (.getfield 49, 3) := dk_180 0 49 (dk_at dksX1_those_1 1 rfl rfl)
theorem dX1_those_28 : decode cX1_those 28 = .ok (.iload_n 3, 1) := dk_29 (dk_at dksX1_those_1 4 rfl rfl)
theorem dX1_those_29 : decode cX1_those 29 = .ok (.invokevirtual 277, 3) := dk_182 1 21 (dk_at dksX1_those_1 5 rfl rfl)
theorem dX1_those_32 : decode cX1_those 32 = .ok (.iload_n 1, 1) := dk_27 (dk_at dksX1_those_1 8 rfl rfl)
theorem dX1_those_33 : decode cX1_those 33 = .ok (.if_icmp .ne 9, 3) := dk_160 0 9 (dk_at dksX1_those_1 9 rfl rfl)
theorem dX1_those_36 : decode cX1_those 36 = .ok (.iconst 1, 1) := dk_4 (dk_at dksX1_those_1 12 rfl rfl)
theorem dX1_those_37 : decode cX1_those 37 = .ok (.iload_n 3, 1) := dk_29 (dk_at dksX1_those_1 13 rfl rfl)
theorem dX1_those_38 : decode cX1_those 38 = .ok (.ishl, 1) := dk_120 (dk_at dksX1_those_1 14 rfl rfl)
theorem dX1_those_39 : decode cX1_those 39 = .ok (.goto 4, 3) := dk_167 0 4 (dk_at dksX1_those_1 15 rfl rfl)
theorem dX1_those_42 : decode cX1_those 42 = .ok (.iconst 0, 1) := dk_3 (dk_at dksX1_those_1 18 rfl rfl)
theorem dX1_those_43 : decode cX1_those 43 = .ok (.ior, 1) := dk_128 (dk_at dksX1_those_1 19 rfl rfl)
theorem dX1_those_44 : decode cX1_those 44 = .ok (.istore_n 2, 1) := dk_61 (dk_at dksX1_those_1 20 rfl rfl)
theorem dX1_those_45 : decode cX1_those 45 = .ok (.iinc 3 1, 3) := dk_132 3 1 (dk_at dksX1_those_1 21 rfl rfl)
theorem dX1_those_48 : decode cX1_those 48 = .ok (.goto (-36), 3) := dk_167 255 220 (dk_at dksX1_those_2 0 rfl rfl)
theorem dX1_those_51 : decode cX1_those 51 = .ok (.iload_n 2, 1) := dk_28 (dk_at dksX1_those_2 3 rfl rfl)
theorem dX1_those_52 : decode cX1_those 52 = .ok (.ireturn, 1) := dk_172 (dk_at dksX1_those_2 4 rfl rfl)
abbrev cX1_loudest : ByteArray := prog_1_method_36_code
def yX1_loudest : MethodName := ⟨RX1, "loudest", "(I)I"⟩
def dkwX1_loudest_3 : List UInt8 := [160, 0, 7, 28, 167, 0, 11, 42, 180, 0, 49, 28, 182, 1, 67, 172]
abbrev dktX1_loudest_3 : List UInt8 := dkwX1_loudest_3 ++ []
def dkwX1_loudest_2 : List UInt8 := [180, 0, 49, 28, 182, 1, 67, 164, 0, 5, 29, 61, 132, 3, 1, 167, 255, 206, 27, 153, 0, 8, 28, 2]
abbrev dktX1_loudest_2 : List UInt8 := dkwX1_loudest_2 ++ dktX1_loudest_3
def dkwX1_loudest_1 : List UInt8 := [180, 0, 239, 29, 46, 2, 159, 0, 29, 28, 2, 159, 0, 22, 42, 180, 0, 49, 29, 182, 1, 67, 42]
abbrev dktX1_loudest_1 : List UInt8 := dkwX1_loudest_1 ++ dktX1_loudest_2
def dkwX1_loudest_0 : List UInt8 := [42, 27, 184, 1, 40, 182, 0, 172, 2, 61, 3, 62, 29, 42, 182, 0, 156, 162, 0, 48, 42, 180, 0, 49]
abbrev dktX1_loudest_0 : List UInt8 := dkwX1_loudest_0 ++ dktX1_loudest_1
theorem dksX1_loudest_0 : cX1_loudest.data.toList.drop 0 = dktX1_loudest_0 := by decide +kernel
theorem dksX1_loudest_1 : cX1_loudest.data.toList.drop 24 = dktX1_loudest_1 := dk_seg dksX1_loudest_0 24 rfl rfl
theorem dksX1_loudest_2 : cX1_loudest.data.toList.drop 47 = dktX1_loudest_2 := dk_seg dksX1_loudest_1 23 rfl rfl
theorem dksX1_loudest_3 : cX1_loudest.data.toList.drop 71 = dktX1_loudest_3 := dk_seg dksX1_loudest_2 24 rfl rfl
theorem dX1_loudest_0 : decode cX1_loudest 0 = .ok (.aload_n 0, 1) := dk_42 (dk_at dksX1_loudest_0 0 rfl rfl)
theorem dX1_loudest_1 : decode cX1_loudest 1 = .ok (.iload_n 1, 1) := dk_27 (dk_at dksX1_loudest_0 1 rfl rfl)
theorem dX1_loudest_2 : decode cX1_loudest 2 = .ok (.invokestatic 296, 3) := dk_184 1 40 (dk_at dksX1_loudest_0 2 rfl rfl)
theorem dX1_loudest_5 : decode cX1_loudest 5 = .ok (.invokevirtual 172, 3) := dk_182 0 172 (dk_at dksX1_loudest_0 5 rfl rfl)
theorem dX1_loudest_8 : decode cX1_loudest 8 = .ok (.iconst (-1), 1) := dk_2 (dk_at dksX1_loudest_0 8 rfl rfl)
theorem dX1_loudest_9 : decode cX1_loudest 9 = .ok (.istore_n 2, 1) := dk_61 (dk_at dksX1_loudest_0 9 rfl rfl)
theorem dX1_loudest_10 : decode cX1_loudest 10 = .ok (.iconst 0, 1) := dk_3 (dk_at dksX1_loudest_0 10 rfl rfl)
theorem dX1_loudest_11 : decode cX1_loudest 11 = .ok (.istore_n 3, 1) := dk_62 (dk_at dksX1_loudest_0 11 rfl rfl)
theorem dX1_loudest_12 : decode cX1_loudest 12 = .ok (.iload_n 3, 1) := dk_29 (dk_at dksX1_loudest_0 12 rfl rfl)
theorem dX1_loudest_13 : decode cX1_loudest 13 = .ok (.aload_n 0, 1) := dk_42 (dk_at dksX1_loudest_0 13 rfl rfl)
theorem dX1_loudest_14 : decode cX1_loudest 14 = .ok (.invokevirtual 156, 3) := dk_182 0 156 (dk_at dksX1_loudest_0 14 rfl rfl)
theorem dX1_loudest_17 : decode cX1_loudest 17 = .ok (.if_icmp .ge 48, 3) := dk_162 0 48 (dk_at dksX1_loudest_0 17 rfl rfl)
theorem dX1_loudest_20 : decode cX1_loudest 20 = .ok (.aload_n 0, 1) := dk_42 (dk_at dksX1_loudest_0 20 rfl rfl)
theorem dX1_loudest_21 : decode cX1_loudest 21 = .ok (.getfield 49, 3) := dk_180 0 49 (dk_at dksX1_loudest_0 21 rfl rfl)
theorem dX1_loudest_24 : decode cX1_loudest 24 = .ok (.getfield 239, 3) := dk_180 0 239 (dk_at dksX1_loudest_1 0 rfl rfl)
theorem dX1_loudest_27 : decode cX1_loudest 27 = .ok (.iload_n 3, 1) := dk_29 (dk_at dksX1_loudest_1 3 rfl rfl)
theorem dX1_loudest_28 : decode cX1_loudest 28 = .ok (.iaload, 1) := dk_46 (dk_at dksX1_loudest_1 4 rfl rfl)
theorem dX1_loudest_29 : decode cX1_loudest 29 = .ok (.iconst (-1), 1) := dk_2 (dk_at dksX1_loudest_1 5 rfl rfl)
theorem dX1_loudest_30 : decode cX1_loudest 30 = .ok (.if_icmp .eq 29, 3) := dk_159 0 29 (dk_at dksX1_loudest_1 6 rfl rfl)
theorem dX1_loudest_33 : decode cX1_loudest 33 = .ok (.iload_n 2, 1) := dk_28 (dk_at dksX1_loudest_1 9 rfl rfl)
theorem dX1_loudest_34 : decode cX1_loudest 34 = .ok (.iconst (-1), 1) := dk_2 (dk_at dksX1_loudest_1 10 rfl rfl)
theorem dX1_loudest_35 : decode cX1_loudest 35 = .ok (.if_icmp .eq 22, 3) := dk_159 0 22 (dk_at dksX1_loudest_1 11 rfl rfl)
theorem dX1_loudest_38 : decode cX1_loudest 38 = .ok (.aload_n 0, 1) := dk_42 (dk_at dksX1_loudest_1 14 rfl rfl)
theorem dX1_loudest_39 : decode cX1_loudest 39 = .ok (.getfield 49, 3) := dk_180 0 49 (dk_at dksX1_loudest_1 15 rfl rfl)
theorem dX1_loudest_42 : decode cX1_loudest 42 = .ok (.iload_n 3, 1) := dk_29 (dk_at dksX1_loudest_1 18 rfl rfl)
theorem dX1_loudest_43 : decode cX1_loudest 43 = .ok (.invokevirtual 323, 3) := dk_182 1 67 (dk_at dksX1_loudest_1 19 rfl rfl)
theorem dX1_loudest_46 : decode cX1_loudest 46 = .ok (.aload_n 0, 1) := dk_42 (dk_at dksX1_loudest_1 22 rfl rfl)
theorem dX1_loudest_47 : decode cX1_loudest 47 = .ok (.getfield 49, 3) := dk_180 0 49 (dk_at dksX1_loudest_2 0 rfl rfl)
theorem dX1_loudest_50 : decode cX1_loudest 50 = .ok (.iload_n 2, 1) := dk_28 (dk_at dksX1_loudest_2 3 rfl rfl)
theorem dX1_loudest_51 : decode cX1_loudest 51 = .ok (.invokevirtual 323, 3) := dk_182 1 67 (dk_at dksX1_loudest_2 4 rfl rfl)
theorem dX1_loudest_54 : decode cX1_loudest 54 = .ok (.if_icmp .le 5, 3) := dk_164 0 5 (dk_at dksX1_loudest_2 7 rfl rfl)
theorem dX1_loudest_57 : decode cX1_loudest 57 = .ok (.iload_n 3, 1) := dk_29 (dk_at dksX1_loudest_2 10 rfl rfl)
theorem dX1_loudest_58 : decode cX1_loudest 58 = .ok (.istore_n 2, 1) := dk_61 (dk_at dksX1_loudest_2 11 rfl rfl)
theorem dX1_loudest_59 : decode cX1_loudest 59 = .ok (.iinc 3 1, 3) := dk_132 3 1 (dk_at dksX1_loudest_2 12 rfl rfl)
theorem dX1_loudest_62 : decode cX1_loudest 62 = .ok (.goto (-50), 3) := dk_167 255 206 (dk_at dksX1_loudest_2 15 rfl rfl)
theorem dX1_loudest_65 : decode cX1_loudest 65 = .ok (.iload_n 1, 1) := dk_27 (dk_at dksX1_loudest_2 18 rfl rfl)
theorem dX1_loudest_66 : decode cX1_loudest 66 = .ok (.ifCond .eq 8, 3) := dk_153 0 8 (dk_at dksX1_loudest_2 19 rfl rfl)
theorem dX1_loudest_69 : decode cX1_loudest 69 = .ok (.iload_n 2, 1) := dk_28 (dk_at dksX1_loudest_2 22 rfl rfl)
theorem dX1_loudest_70 : decode cX1_loudest 70 = .ok (.iconst (-1), 1) := dk_2 (dk_at dksX1_loudest_2 23 rfl rfl)
theorem dX1_loudest_71 : decode cX1_loudest 71 = .ok (.if_icmp .ne 7, 3) := dk_160 0 7 (dk_at dksX1_loudest_3 0 rfl rfl)
theorem dX1_loudest_74 : decode cX1_loudest 74 = .ok (.iload_n 2, 1) := dk_28 (dk_at dksX1_loudest_3 3 rfl rfl)
theorem dX1_loudest_75 : decode cX1_loudest 75 = .ok (.goto 11, 3) := dk_167 0 11 (dk_at dksX1_loudest_3 4 rfl rfl)
theorem dX1_loudest_78 : decode cX1_loudest 78 = .ok (.aload_n 0, 1) := dk_42 (dk_at dksX1_loudest_3 7 rfl rfl)
theorem dX1_loudest_79 : decode cX1_loudest 79 = .ok (.getfield 49, 3) := dk_180 0 49 (dk_at dksX1_loudest_3 8 rfl rfl)
theorem dX1_loudest_82 : decode cX1_loudest 82 = .ok (.iload_n 2, 1) := dk_28 (dk_at dksX1_loudest_3 11 rfl rfl)
theorem dX1_loudest_83 : decode cX1_loudest 83 = .ok (.invokevirtual 323, 3) := dk_182 1 67 (dk_at dksX1_loudest_3 12 rfl rfl)
theorem dX1_loudest_86 : decode cX1_loudest 86 = .ok (.ireturn, 1) := dk_172 (dk_at dksX1_loudest_3 15 rfl rfl)
abbrev cX1_quiet : ByteArray := prog_1_method_37_code
def yX1_quiet : MethodName := ⟨RX1, "quiet", "(I)I"⟩
def dkwX1_quiet_3 : List UInt8 := [167, 255, 196, 28, 172]
abbrev dktX1_quiet_3 : List UInt8 := dkwX1_quiet_3 ++ []
def dkwX1_quiet_2 : List UInt8 := [180, 0, 49, 27, 29, 182, 1, 83, 154, 0, 9, 4, 29, 120, 167, 0, 4, 3, 128, 61, 132, 3, 1]
abbrev dktX1_quiet_2 : List UInt8 := dkwX1_quiet_2 ++ dktX1_quiet_3
def dkwX1_quiet_1 : List UInt8 := [180, 0, 49, 29, 182, 1, 24, 2, 159, 0, 15, 42, 180, 0, 49, 29, 182, 1, 24, 27, 160, 0, 21, 42]
abbrev dktX1_quiet_1 : List UInt8 := dkwX1_quiet_1 ++ dktX1_quiet_2
def dkwX1_quiet_0 : List UInt8 := [42, 27, 182, 1, 49, 3, 61, 3, 62, 29, 42, 180, 0, 22, 180, 0, 149, 162, 0, 55, 28, 42]
abbrev dktX1_quiet_0 : List UInt8 := dkwX1_quiet_0 ++ dktX1_quiet_1
theorem dksX1_quiet_0 : cX1_quiet.data.toList.drop 0 = dktX1_quiet_0 := by decide +kernel
theorem dksX1_quiet_1 : cX1_quiet.data.toList.drop 22 = dktX1_quiet_1 := dk_seg dksX1_quiet_0 22 rfl rfl
theorem dksX1_quiet_2 : cX1_quiet.data.toList.drop 46 = dktX1_quiet_2 := dk_seg dksX1_quiet_1 24 rfl rfl
theorem dksX1_quiet_3 : cX1_quiet.data.toList.drop 69 = dktX1_quiet_3 := dk_seg dksX1_quiet_2 23 rfl rfl
theorem dX1_quiet_0 : decode cX1_quiet 0 = .ok (.aload_n 0, 1) := dk_42 (dk_at dksX1_quiet_0 0 rfl rfl)
theorem dX1_quiet_1 : decode cX1_quiet 1 = .ok (.iload_n 1, 1) := dk_27 (dk_at dksX1_quiet_0 1 rfl rfl)
theorem dX1_quiet_2 : decode cX1_quiet 2 = .ok (.invokevirtual 305, 3) := dk_182 1 49 (dk_at dksX1_quiet_0 2 rfl rfl)
theorem dX1_quiet_5 : decode cX1_quiet 5 = .ok (.iconst 0, 1) := dk_3 (dk_at dksX1_quiet_0 5 rfl rfl)
theorem dX1_quiet_6 : decode cX1_quiet 6 = .ok (.istore_n 2, 1) := dk_61 (dk_at dksX1_quiet_0 6 rfl rfl)
theorem dX1_quiet_7 : decode cX1_quiet 7 = .ok (.iconst 0, 1) := dk_3 (dk_at dksX1_quiet_0 7 rfl rfl)
theorem dX1_quiet_8 : decode cX1_quiet 8 = .ok (.istore_n 3, 1) := dk_62 (dk_at dksX1_quiet_0 8 rfl rfl)
theorem dX1_quiet_9 : decode cX1_quiet 9 = .ok (.iload_n 3, 1) := dk_29 (dk_at dksX1_quiet_0 9 rfl rfl)
theorem dX1_quiet_10 : decode cX1_quiet 10 = .ok (.aload_n 0, 1) := dk_42 (dk_at dksX1_quiet_0 10 rfl rfl)
theorem dX1_quiet_11 : decode cX1_quiet 11 = .ok (.getfield 22, 3) := dk_180 0 22 (dk_at dksX1_quiet_0 11 rfl rfl)
theorem dX1_quiet_14 : decode cX1_quiet 14 = .ok (.getfield 149, 3) := dk_180 0 149 (dk_at dksX1_quiet_0 14 rfl rfl)
theorem dX1_quiet_17 : decode cX1_quiet 17 = .ok (.if_icmp .ge 55, 3) := dk_162 0 55 (dk_at dksX1_quiet_0 17 rfl rfl)
theorem dX1_quiet_20 : decode cX1_quiet 20 = .ok (.iload_n 2, 1) := dk_28 (dk_at dksX1_quiet_0 20 rfl rfl)
theorem dX1_quiet_21 : decode cX1_quiet 21 = .ok (.aload_n 0, 1) := dk_42 (dk_at dksX1_quiet_0 21 rfl rfl)
theorem dX1_quiet_22 : decode cX1_quiet 22 = .ok (.getfield 49, 3) := dk_180 0 49 (dk_at dksX1_quiet_1 0 rfl rfl)
theorem dX1_quiet_25 : decode cX1_quiet 25 = .ok (.iload_n 3, 1) := dk_29 (dk_at dksX1_quiet_1 3 rfl rfl)
theorem dX1_quiet_26 : decode cX1_quiet 26 = .ok (.invokevirtual 280, 3) := dk_182 1 24 (dk_at dksX1_quiet_1 4 rfl rfl)
theorem dX1_quiet_29 : decode cX1_quiet 29 = .ok (.iconst (-1), 1) := dk_2 (dk_at dksX1_quiet_1 7 rfl rfl)
theorem dX1_quiet_30 : decode cX1_quiet 30 = .ok (.if_icmp .eq 15, 3) := dk_159 0 15 (dk_at dksX1_quiet_1 8 rfl rfl)
theorem dX1_quiet_33 : decode cX1_quiet 33 = .ok (.aload_n 0, 1) := dk_42 (dk_at dksX1_quiet_1 11 rfl rfl)
theorem dX1_quiet_34 : decode cX1_quiet 34 = .ok (.getfield 49, 3) := dk_180 0 49 (dk_at dksX1_quiet_1 12 rfl rfl)
theorem dX1_quiet_37 : decode cX1_quiet 37 = .ok (.iload_n 3, 1) := dk_29 (dk_at dksX1_quiet_1 15 rfl rfl)
theorem dX1_quiet_38 : decode cX1_quiet 38 = .ok (.invokevirtual 280, 3) := dk_182 1 24 (dk_at dksX1_quiet_1 16 rfl rfl)
theorem dX1_quiet_41 : decode cX1_quiet 41 = .ok (.iload_n 1, 1) := dk_27 (dk_at dksX1_quiet_1 19 rfl rfl)
theorem dX1_quiet_42 : decode cX1_quiet 42 = .ok (.if_icmp .ne 21, 3) := dk_160 0 21 (dk_at dksX1_quiet_1 20 rfl rfl)
theorem dX1_quiet_45 : decode cX1_quiet 45 = .ok (.aload_n 0, 1) := dk_42 (dk_at dksX1_quiet_1 23 rfl rfl)
theorem dX1_quiet_46 : decode cX1_quiet 46 = .ok (.getfield 49, 3) := dk_180 0 49 (dk_at dksX1_quiet_2 0 rfl rfl)
theorem dX1_quiet_49 : decode cX1_quiet 49 = .ok (.iload_n 1, 1) := dk_27 (dk_at dksX1_quiet_2 3 rfl rfl)
theorem dX1_quiet_50 : decode cX1_quiet 50 = .ok (.iload_n 3, 1) := dk_29 (dk_at dksX1_quiet_2 4 rfl rfl)
theorem dX1_quiet_51 : decode cX1_quiet 51 = .ok (.invokevirtual 339, 3) := dk_182 1 83 (dk_at dksX1_quiet_2 5 rfl rfl)
theorem dX1_quiet_54 : decode cX1_quiet 54 = .ok (.ifCond .ne 9, 3) := dk_154 0 9 (dk_at dksX1_quiet_2 8 rfl rfl)
theorem dX1_quiet_57 : decode cX1_quiet 57 = .ok (.iconst 1, 1) := dk_4 (dk_at dksX1_quiet_2 11 rfl rfl)
theorem dX1_quiet_58 : decode cX1_quiet 58 = .ok (.iload_n 3, 1) := dk_29 (dk_at dksX1_quiet_2 12 rfl rfl)
theorem dX1_quiet_59 : decode cX1_quiet 59 = .ok (.ishl, 1) := dk_120 (dk_at dksX1_quiet_2 13 rfl rfl)
theorem dX1_quiet_60 : decode cX1_quiet 60 = .ok (.goto 4, 3) := dk_167 0 4 (dk_at dksX1_quiet_2 14 rfl rfl)
theorem dX1_quiet_63 : decode cX1_quiet 63 = .ok (.iconst 0, 1) := dk_3 (dk_at dksX1_quiet_2 17 rfl rfl)
theorem dX1_quiet_64 : decode cX1_quiet 64 = .ok (.ior, 1) := dk_128 (dk_at dksX1_quiet_2 18 rfl rfl)
theorem dX1_quiet_65 : decode cX1_quiet 65 = .ok (.istore_n 2, 1) := dk_61 (dk_at dksX1_quiet_2 19 rfl rfl)
theorem dX1_quiet_66 : decode cX1_quiet 66 = .ok (.iinc 3 1, 3) := dk_132 3 1 (dk_at dksX1_quiet_2 20 rfl rfl)
theorem dX1_quiet_69 : decode cX1_quiet 69 = .ok (.goto (-60), 3) := dk_167 255 196 (dk_at dksX1_quiet_3 0 rfl rfl)
theorem dX1_quiet_72 : decode cX1_quiet 72 = .ok (.iload_n 2, 1) := dk_28 (dk_at dksX1_quiet_3 3 rfl rfl)
theorem dX1_quiet_73 : decode cX1_quiet 73 = .ok (.ireturn, 1) := dk_172 (dk_at dksX1_quiet_3 4 rfl rfl)
abbrev cX1_oldest : ByteArray := prog_1_method_39_code
def yX1_oldest : MethodName := ⟨RX1, "oldest", "(I)I"⟩
def dkwX1_oldest_3 : List UInt8 := [2, 160, 0, 7, 28, 167, 0, 12, 42, 180, 0, 49, 180, 1, 64, 28, 46, 172]
abbrev dktX1_oldest_3 : List UInt8 := dkwX1_oldest_3 ++ []
def dkwX1_oldest_2 : List UInt8 := [180, 0, 49, 180, 1, 64, 28, 46, 164, 0, 5, 29, 61, 132, 3, 1, 167, 255, 204, 27, 153, 0, 8, 28]
abbrev dktX1_oldest_2 : List UInt8 := dkwX1_oldest_2 ++ dktX1_oldest_3
def dkwX1_oldest_1 : List UInt8 := [180, 0, 239, 29, 46, 2, 159, 0, 31, 28, 2, 159, 0, 24, 42, 180, 0, 49, 180, 1, 64, 29, 46, 42]
abbrev dktX1_oldest_1 : List UInt8 := dkwX1_oldest_1 ++ dktX1_oldest_2
def dkwX1_oldest_0 : List UInt8 := [42, 27, 184, 1, 40, 182, 0, 172, 2, 61, 3, 62, 29, 42, 182, 0, 156, 162, 0, 50, 42, 180, 0, 49]
abbrev dktX1_oldest_0 : List UInt8 := dkwX1_oldest_0 ++ dktX1_oldest_1
theorem dksX1_oldest_0 : cX1_oldest.data.toList.drop 0 = dktX1_oldest_0 := by decide +kernel
theorem dksX1_oldest_1 : cX1_oldest.data.toList.drop 24 = dktX1_oldest_1 := dk_seg dksX1_oldest_0 24 rfl rfl
theorem dksX1_oldest_2 : cX1_oldest.data.toList.drop 48 = dktX1_oldest_2 := dk_seg dksX1_oldest_1 24 rfl rfl
theorem dksX1_oldest_3 : cX1_oldest.data.toList.drop 72 = dktX1_oldest_3 := dk_seg dksX1_oldest_2 24 rfl rfl
theorem dX1_oldest_0 : decode cX1_oldest 0 = .ok (.aload_n 0, 1) := dk_42 (dk_at dksX1_oldest_0 0 rfl rfl)
theorem dX1_oldest_1 : decode cX1_oldest 1 = .ok (.iload_n 1, 1) := dk_27 (dk_at dksX1_oldest_0 1 rfl rfl)
theorem dX1_oldest_2 : decode cX1_oldest 2 = .ok (.invokestatic 296, 3) := dk_184 1 40 (dk_at dksX1_oldest_0 2 rfl rfl)
theorem dX1_oldest_5 : decode cX1_oldest 5 = .ok (.invokevirtual 172, 3) := dk_182 0 172 (dk_at dksX1_oldest_0 5 rfl rfl)
theorem dX1_oldest_8 : decode cX1_oldest 8 = .ok (.iconst (-1), 1) := dk_2 (dk_at dksX1_oldest_0 8 rfl rfl)
theorem dX1_oldest_9 : decode cX1_oldest 9 = .ok (.istore_n 2, 1) := dk_61 (dk_at dksX1_oldest_0 9 rfl rfl)
theorem dX1_oldest_10 : decode cX1_oldest 10 = .ok (.iconst 0, 1) := dk_3 (dk_at dksX1_oldest_0 10 rfl rfl)
theorem dX1_oldest_11 : decode cX1_oldest 11 = .ok (.istore_n 3, 1) := dk_62 (dk_at dksX1_oldest_0 11 rfl rfl)
theorem dX1_oldest_12 : decode cX1_oldest 12 = .ok (.iload_n 3, 1) := dk_29 (dk_at dksX1_oldest_0 12 rfl rfl)
theorem dX1_oldest_13 : decode cX1_oldest 13 = .ok (.aload_n 0, 1) := dk_42 (dk_at dksX1_oldest_0 13 rfl rfl)
theorem dX1_oldest_14 : decode cX1_oldest 14 = .ok (.invokevirtual 156, 3) := dk_182 0 156 (dk_at dksX1_oldest_0 14 rfl rfl)
theorem dX1_oldest_17 : decode cX1_oldest 17 = .ok (.if_icmp .ge 50, 3) := dk_162 0 50 (dk_at dksX1_oldest_0 17 rfl rfl)
theorem dX1_oldest_20 : decode cX1_oldest 20 = .ok (.aload_n 0, 1) := dk_42 (dk_at dksX1_oldest_0 20 rfl rfl)
theorem dX1_oldest_21 : decode cX1_oldest 21 = .ok (.getfield 49, 3) := dk_180 0 49 (dk_at dksX1_oldest_0 21 rfl rfl)
theorem dX1_oldest_24 : decode cX1_oldest 24 = .ok (.getfield 239, 3) := dk_180 0 239 (dk_at dksX1_oldest_1 0 rfl rfl)
theorem dX1_oldest_27 : decode cX1_oldest 27 = .ok (.iload_n 3, 1) := dk_29 (dk_at dksX1_oldest_1 3 rfl rfl)
theorem dX1_oldest_28 : decode cX1_oldest 28 = .ok (.iaload, 1) := dk_46 (dk_at dksX1_oldest_1 4 rfl rfl)
theorem dX1_oldest_29 : decode cX1_oldest 29 = .ok (.iconst (-1), 1) := dk_2 (dk_at dksX1_oldest_1 5 rfl rfl)
theorem dX1_oldest_30 : decode cX1_oldest 30 = .ok (.if_icmp .eq 31, 3) := dk_159 0 31 (dk_at dksX1_oldest_1 6 rfl rfl)
theorem dX1_oldest_33 : decode cX1_oldest 33 = .ok (.iload_n 2, 1) := dk_28 (dk_at dksX1_oldest_1 9 rfl rfl)
theorem dX1_oldest_34 : decode cX1_oldest 34 = .ok (.iconst (-1), 1) := dk_2 (dk_at dksX1_oldest_1 10 rfl rfl)
theorem dX1_oldest_35 : decode cX1_oldest 35 = .ok (.if_icmp .eq 24, 3) := dk_159 0 24 (dk_at dksX1_oldest_1 11 rfl rfl)
theorem dX1_oldest_38 : decode cX1_oldest 38 = .ok (.aload_n 0, 1) := dk_42 (dk_at dksX1_oldest_1 14 rfl rfl)
theorem dX1_oldest_39 : decode cX1_oldest 39 = .ok (.getfield 49, 3) := dk_180 0 49 (dk_at dksX1_oldest_1 15 rfl rfl)
theorem dX1_oldest_42 : decode cX1_oldest 42 = .ok (.getfield 320, 3) := dk_180 1 64 (dk_at dksX1_oldest_1 18 rfl rfl)
theorem dX1_oldest_45 : decode cX1_oldest 45 = .ok (.iload_n 3, 1) := dk_29 (dk_at dksX1_oldest_1 21 rfl rfl)
theorem dX1_oldest_46 : decode cX1_oldest 46 = .ok (.iaload, 1) := dk_46 (dk_at dksX1_oldest_1 22 rfl rfl)
theorem dX1_oldest_47 : decode cX1_oldest 47 = .ok (.aload_n 0, 1) := dk_42 (dk_at dksX1_oldest_1 23 rfl rfl)
theorem dX1_oldest_48 : decode cX1_oldest 48 = .ok (.getfield 49, 3) := dk_180 0 49 (dk_at dksX1_oldest_2 0 rfl rfl)
theorem dX1_oldest_51 : decode cX1_oldest 51 = .ok (.getfield 320, 3) := dk_180 1 64 (dk_at dksX1_oldest_2 3 rfl rfl)
theorem dX1_oldest_54 : decode cX1_oldest 54 = .ok (.iload_n 2, 1) := dk_28 (dk_at dksX1_oldest_2 6 rfl rfl)
theorem dX1_oldest_55 : decode cX1_oldest 55 = .ok (.iaload, 1) := dk_46 (dk_at dksX1_oldest_2 7 rfl rfl)
theorem dX1_oldest_56 : decode cX1_oldest 56 = .ok (.if_icmp .le 5, 3) := dk_164 0 5 (dk_at dksX1_oldest_2 8 rfl rfl)
theorem dX1_oldest_59 : decode cX1_oldest 59 = .ok (.iload_n 3, 1) := dk_29 (dk_at dksX1_oldest_2 11 rfl rfl)
theorem dX1_oldest_60 : decode cX1_oldest 60 = .ok (.istore_n 2, 1) := dk_61 (dk_at dksX1_oldest_2 12 rfl rfl)
theorem dX1_oldest_61 : decode cX1_oldest 61 = .ok (.iinc 3 1, 3) := dk_132 3 1 (dk_at dksX1_oldest_2 13 rfl rfl)
theorem dX1_oldest_64 : decode cX1_oldest 64 = .ok (.goto (-52), 3) := dk_167 255 204 (dk_at dksX1_oldest_2 16 rfl rfl)
theorem dX1_oldest_67 : decode cX1_oldest 67 = .ok (.iload_n 1, 1) := dk_27 (dk_at dksX1_oldest_2 19 rfl rfl)
theorem dX1_oldest_68 : decode cX1_oldest 68 = .ok (.ifCond .eq 8, 3) := dk_153 0 8 (dk_at dksX1_oldest_2 20 rfl rfl)
theorem dX1_oldest_71 : decode cX1_oldest 71 = .ok (.iload_n 2, 1) := dk_28 (dk_at dksX1_oldest_2 23 rfl rfl)
theorem dX1_oldest_72 : decode cX1_oldest 72 = .ok (.iconst (-1), 1) := dk_2 (dk_at dksX1_oldest_3 0 rfl rfl)
theorem dX1_oldest_73 : decode cX1_oldest 73 = .ok (.if_icmp .ne 7, 3) := dk_160 0 7 (dk_at dksX1_oldest_3 1 rfl rfl)
theorem dX1_oldest_76 : decode cX1_oldest 76 = .ok (.iload_n 2, 1) := dk_28 (dk_at dksX1_oldest_3 4 rfl rfl)
theorem dX1_oldest_77 : decode cX1_oldest 77 = .ok (.goto 12, 3) := dk_167 0 12 (dk_at dksX1_oldest_3 5 rfl rfl)
theorem dX1_oldest_80 : decode cX1_oldest 80 = .ok (.aload_n 0, 1) := dk_42 (dk_at dksX1_oldest_3 8 rfl rfl)
theorem dX1_oldest_81 : decode cX1_oldest 81 = .ok (.getfield 49, 3) := dk_180 0 49 (dk_at dksX1_oldest_3 9 rfl rfl)
theorem dX1_oldest_84 : decode cX1_oldest 84 = .ok (.getfield 320, 3) := dk_180 1 64 (dk_at dksX1_oldest_3 12 rfl rfl)
theorem dX1_oldest_87 : decode cX1_oldest 87 = .ok (.iload_n 2, 1) := dk_28 (dk_at dksX1_oldest_3 15 rfl rfl)
theorem dX1_oldest_88 : decode cX1_oldest 88 = .ok (.iaload, 1) := dk_46 (dk_at dksX1_oldest_3 16 rfl rfl)
theorem dX1_oldest_89 : decode cX1_oldest 89 = .ok (.ireturn, 1) := dk_172 (dk_at dksX1_oldest_3 17 rfl rfl)
abbrev cX1_margin : ByteArray := prog_1_method_41_code
def yX1_margin : MethodName := ⟨RX1, "margin", "(I)I"⟩
def dkwX1_margin_3 : List UInt8 := [46, 29, 100, 172]
abbrev dktX1_margin_3 : List UInt8 := dkwX1_margin_3 ++ []
def dkwX1_margin_2 : List UInt8 := [46, 184, 0, 140, 62, 132, 4, 1, 167, 255, 220, 42, 180, 0, 49, 180, 1, 30, 16, 10, 27, 104, 28, 96]
abbrev dktX1_margin_2 : List UInt8 := dkwX1_margin_2 ++ dktX1_margin_3
def dkwX1_margin_1 : List UInt8 := [162, 0, 35, 21, 4, 28, 159, 0, 23, 29, 42, 180, 0, 49, 180, 1, 30, 16, 10, 27, 104, 21, 4, 96]
abbrev dktX1_margin_1 : List UInt8 := dkwX1_margin_1 ++ dktX1_margin_2
def dkwX1_margin_0 : List UInt8 := [42, 27, 182, 1, 18, 42, 180, 0, 49, 27, 182, 1, 21, 61, 3, 62, 3, 54, 4, 21, 4, 16, 10]
abbrev dktX1_margin_0 : List UInt8 := dkwX1_margin_0 ++ dktX1_margin_1
theorem dksX1_margin_0 : cX1_margin.data.toList.drop 0 = dktX1_margin_0 := by decide +kernel
theorem dksX1_margin_1 : cX1_margin.data.toList.drop 23 = dktX1_margin_1 := dk_seg dksX1_margin_0 23 rfl rfl
theorem dksX1_margin_2 : cX1_margin.data.toList.drop 47 = dktX1_margin_2 := dk_seg dksX1_margin_1 24 rfl rfl
theorem dksX1_margin_3 : cX1_margin.data.toList.drop 71 = dktX1_margin_3 := dk_seg dksX1_margin_2 24 rfl rfl
theorem dX1_margin_0 : decode cX1_margin 0 = .ok (.aload_n 0, 1) := dk_42 (dk_at dksX1_margin_0 0 rfl rfl)
theorem dX1_margin_1 : decode cX1_margin 1 = .ok (.iload_n 1, 1) := dk_27 (dk_at dksX1_margin_0 1 rfl rfl)
theorem dX1_margin_2 : decode cX1_margin 2 = .ok (.invokevirtual 274, 3) := dk_182 1 18 (dk_at dksX1_margin_0 2 rfl rfl)
theorem dX1_margin_5 : decode cX1_margin 5 = .ok (.aload_n 0, 1) := dk_42 (dk_at dksX1_margin_0 5 rfl rfl)
theorem dX1_margin_6 : decode cX1_margin 6 = .ok (.getfield 49, 3) := dk_180 0 49 (dk_at dksX1_margin_0 6 rfl rfl)
theorem dX1_margin_9 : decode cX1_margin 9 = .ok (.iload_n 1, 1) := dk_27 (dk_at dksX1_margin_0 9 rfl rfl)
theorem dX1_margin_10 : decode cX1_margin 10 = .ok (.invokevirtual 277, 3) := dk_182 1 21 (dk_at dksX1_margin_0 10 rfl rfl)
theorem dX1_margin_13 : decode cX1_margin 13 = .ok (.istore_n 2, 1) := dk_61 (dk_at dksX1_margin_0 13 rfl rfl)
theorem dX1_margin_14 : decode cX1_margin 14 = .ok (.iconst 0, 1) := dk_3 (dk_at dksX1_margin_0 14 rfl rfl)
theorem dX1_margin_15 : decode cX1_margin 15 = .ok (.istore_n 3, 1) := dk_62 (dk_at dksX1_margin_0 15 rfl rfl)
theorem dX1_margin_16 : decode cX1_margin 16 = .ok (.iconst 0, 1) := dk_3 (dk_at dksX1_margin_0 16 rfl rfl)
theorem dX1_margin_17 : decode cX1_margin 17 = .ok (.istore 4, 2) := dk_54 4 (dk_at dksX1_margin_0 17 rfl rfl)
theorem dX1_margin_19 : decode cX1_margin 19 = .ok (.iload 4, 2) := dk_21 4 (dk_at dksX1_margin_0 19 rfl rfl)
theorem dX1_margin_21 : decode cX1_margin 21 = .ok (.bipush 10, 2) := dk_16 10 (dk_at dksX1_margin_0 21 rfl rfl)
theorem dX1_margin_23 : decode cX1_margin 23 = .ok (.if_icmp .ge 35, 3) := dk_162 0 35 (dk_at dksX1_margin_1 0 rfl rfl)
theorem dX1_margin_26 : decode cX1_margin 26 = .ok (.iload 4, 2) := dk_21 4 (dk_at dksX1_margin_1 3 rfl rfl)
theorem dX1_margin_28 : decode cX1_margin 28 = .ok (.iload_n 2, 1) := dk_28 (dk_at dksX1_margin_1 5 rfl rfl)
theorem dX1_margin_29 : decode cX1_margin 29 = .ok (.if_icmp .eq 23, 3) := dk_159 0 23 (dk_at dksX1_margin_1 6 rfl rfl)
theorem dX1_margin_32 : decode cX1_margin 32 = .ok (.iload_n 3, 1) := dk_29 (dk_at dksX1_margin_1 9 rfl rfl)
theorem dX1_margin_33 : decode cX1_margin 33 = .ok (.aload_n 0, 1) := dk_42 (dk_at dksX1_margin_1 10 rfl rfl)
theorem dX1_margin_34 : decode cX1_margin 34 = .ok (.getfield 49, 3) := dk_180 0 49 (dk_at dksX1_margin_1 11 rfl rfl)
theorem dX1_margin_37 : decode cX1_margin 37 = .ok (.getfield 286, 3) := dk_180 1 30 (dk_at dksX1_margin_1 14 rfl rfl)
theorem dX1_margin_40 : decode cX1_margin 40 = .ok (.bipush 10, 2) := dk_16 10 (dk_at dksX1_margin_1 17 rfl rfl)
theorem dX1_margin_42 : decode cX1_margin 42 = .ok (.iload_n 1, 1) := dk_27 (dk_at dksX1_margin_1 19 rfl rfl)
theorem dX1_margin_43 : decode cX1_margin 43 = .ok (.imul, 1) := dk_104 (dk_at dksX1_margin_1 20 rfl rfl)
theorem dX1_margin_44 : decode cX1_margin 44 = .ok (.iload 4, 2) := dk_21 4 (dk_at dksX1_margin_1 21 rfl rfl)
theorem dX1_margin_46 : decode cX1_margin 46 = .ok (.iadd, 1) := dk_96 (dk_at dksX1_margin_1 23 rfl rfl)
theorem dX1_margin_47 : decode cX1_margin 47 = .ok (.iaload, 1) := dk_46 (dk_at dksX1_margin_2 0 rfl rfl)
theorem dX1_margin_48 : decode cX1_margin 48 = .ok (.invokestatic 140, 3) := dk_184 0 140 (dk_at dksX1_margin_2 1 rfl rfl)
theorem dX1_margin_51 : decode cX1_margin 51 = .ok (.istore_n 3, 1) := dk_62 (dk_at dksX1_margin_2 4 rfl rfl)
theorem dX1_margin_52 : decode cX1_margin 52 = .ok (.iinc 4 1, 3) := dk_132 4 1 (dk_at dksX1_margin_2 5 rfl rfl)
theorem dX1_margin_55 : decode cX1_margin 55 = .ok (.goto (-36), 3) := dk_167 255 220 (dk_at dksX1_margin_2 8 rfl rfl)
theorem dX1_margin_58 : decode cX1_margin 58 = .ok (.aload_n 0, 1) := dk_42 (dk_at dksX1_margin_2 11 rfl rfl)
theorem dX1_margin_59 : decode cX1_margin 59 = .ok (.getfield 49, 3) := dk_180 0 49 (dk_at dksX1_margin_2 12 rfl rfl)
theorem dX1_margin_62 : decode cX1_margin 62 = .ok (.getfield 286, 3) := dk_180 1 30 (dk_at dksX1_margin_2 15 rfl rfl)
theorem dX1_margin_65 : decode cX1_margin 65 = .ok (.bipush 10, 2) := dk_16 10 (dk_at dksX1_margin_2 18 rfl rfl)
theorem dX1_margin_67 : decode cX1_margin 67 = .ok (.iload_n 1, 1) := dk_27 (dk_at dksX1_margin_2 20 rfl rfl)
theorem dX1_margin_68 : decode cX1_margin 68 = .ok (.imul, 1) := dk_104 (dk_at dksX1_margin_2 21 rfl rfl)
theorem dX1_margin_69 : decode cX1_margin 69 = .ok (.iload_n 2, 1) := dk_28 (dk_at dksX1_margin_2 22 rfl rfl)
theorem dX1_margin_70 : decode cX1_margin 70 = .ok (.iadd, 1) := dk_96 (dk_at dksX1_margin_2 23 rfl rfl)
theorem dX1_margin_71 : decode cX1_margin 71 = .ok (.iaload, 1) := dk_46 (dk_at dksX1_margin_3 0 rfl rfl)
theorem dX1_margin_72 : decode cX1_margin 72 = .ok (.iload_n 3, 1) := dk_29 (dk_at dksX1_margin_3 1 rfl rfl)
theorem dX1_margin_73 : decode cX1_margin 73 = .ok (.isub, 1) := dk_100 (dk_at dksX1_margin_3 2 rfl rfl)
theorem dX1_margin_74 : decode cX1_margin 74 = .ok (.ireturn, 1) := dk_172 (dk_at dksX1_margin_3 3 rfl rfl)
abbrev cX1_tunes : ByteArray := prog_1_method_42_code
def yX1_tunes : MethodName := ⟨RX1, "tunes", "(II)I"⟩
def dkwX1_tunes_2 : List UInt8 := [182, 1, 89, 153, 0, 11, 45, 27, 182, 1, 70, 167, 0, 4, 2, 172]
abbrev dktX1_tunes_2 : List UInt8 := dkwX1_tunes_2 ++ []
def dkwX1_tunes_1 : List UInt8 := [180, 0, 49, 27, 182, 1, 70, 172, 42, 180, 0, 53, 42, 180, 0, 49, 182, 0, 235, 78, 45, 27, 28]
abbrev dktX1_tunes_1 : List UInt8 := dkwX1_tunes_1 ++ dktX1_tunes_2
def dkwX1_tunes_0 : List UInt8 := [42, 27, 182, 1, 49, 42, 28, 182, 1, 18, 42, 180, 0, 49, 180, 0, 239, 27, 46, 28, 160, 0, 12, 42]
abbrev dktX1_tunes_0 : List UInt8 := dkwX1_tunes_0 ++ dktX1_tunes_1
theorem dksX1_tunes_0 : cX1_tunes.data.toList.drop 0 = dktX1_tunes_0 := by decide +kernel
theorem dksX1_tunes_1 : cX1_tunes.data.toList.drop 24 = dktX1_tunes_1 := dk_seg dksX1_tunes_0 24 rfl rfl
theorem dksX1_tunes_2 : cX1_tunes.data.toList.drop 47 = dktX1_tunes_2 := dk_seg dksX1_tunes_1 23 rfl rfl
theorem dX1_tunes_0 : decode cX1_tunes 0 = .ok (.aload_n 0, 1) := dk_42 (dk_at dksX1_tunes_0 0 rfl rfl)
theorem dX1_tunes_1 : decode cX1_tunes 1 = .ok (.iload_n 1, 1) := dk_27 (dk_at dksX1_tunes_0 1 rfl rfl)
theorem dX1_tunes_2 : decode cX1_tunes 2 = .ok (.invokevirtual 305, 3) := dk_182 1 49 (dk_at dksX1_tunes_0 2 rfl rfl)
theorem dX1_tunes_5 : decode cX1_tunes 5 = .ok (.aload_n 0, 1) := dk_42 (dk_at dksX1_tunes_0 5 rfl rfl)
theorem dX1_tunes_6 : decode cX1_tunes 6 = .ok (.iload_n 2, 1) := dk_28 (dk_at dksX1_tunes_0 6 rfl rfl)
theorem dX1_tunes_7 : decode cX1_tunes 7 = .ok (.invokevirtual 274, 3) := dk_182 1 18 (dk_at dksX1_tunes_0 7 rfl rfl)
theorem dX1_tunes_10 : decode cX1_tunes 10 = .ok (.aload_n 0, 1) := dk_42 (dk_at dksX1_tunes_0 10 rfl rfl)
theorem dX1_tunes_11 : decode cX1_tunes 11 = .ok (.getfield 49, 3) := dk_180 0 49 (dk_at dksX1_tunes_0 11 rfl rfl)
theorem dX1_tunes_14 : decode cX1_tunes 14 = .ok (.getfield 239, 3) := dk_180 0 239 (dk_at dksX1_tunes_0 14 rfl rfl)
theorem dX1_tunes_17 : decode cX1_tunes 17 = .ok (.iload_n 1, 1) := dk_27 (dk_at dksX1_tunes_0 17 rfl rfl)
theorem dX1_tunes_18 : decode cX1_tunes 18 = .ok (.iaload, 1) := dk_46 (dk_at dksX1_tunes_0 18 rfl rfl)
theorem dX1_tunes_19 : decode cX1_tunes 19 = .ok (.iload_n 2, 1) := dk_28 (dk_at dksX1_tunes_0 19 rfl rfl)
theorem dX1_tunes_20 : decode cX1_tunes 20 = .ok (.if_icmp .ne 12, 3) := dk_160 0 12 (dk_at dksX1_tunes_0 20 rfl rfl)
theorem dX1_tunes_23 : decode cX1_tunes 23 = .ok (.aload_n 0, 1) := dk_42 (dk_at dksX1_tunes_0 23 rfl rfl)
theorem dX1_tunes_24 : decode cX1_tunes 24 = .ok (.getfield 49, 3) := dk_180 0 49 (dk_at dksX1_tunes_1 0 rfl rfl)
theorem dX1_tunes_27 : decode cX1_tunes 27 = .ok (.iload_n 1, 1) := dk_27 (dk_at dksX1_tunes_1 3 rfl rfl)
theorem dX1_tunes_28 : decode cX1_tunes 28 = .ok (.invokevirtual 326, 3) := dk_182 1 70 (dk_at dksX1_tunes_1 4 rfl rfl)
theorem dX1_tunes_31 : decode cX1_tunes 31 = .ok (.ireturn, 1) := dk_172 (dk_at dksX1_tunes_1 7 rfl rfl)
theorem dX1_tunes_32 : decode cX1_tunes 32 = .ok (.aload_n 0, 1) := dk_42 (dk_at dksX1_tunes_1 8 rfl rfl)
theorem dX1_tunes_33 : decode cX1_tunes 33 = .ok (.getfield 53, 3) := dk_180 0 53 (dk_at dksX1_tunes_1 9 rfl rfl)
theorem dX1_tunes_36 : decode cX1_tunes 36 = .ok (.aload_n 0, 1) := dk_42 (dk_at dksX1_tunes_1 12 rfl rfl)
theorem dX1_tunes_37 : decode cX1_tunes 37 = .ok (.getfield 49, 3) := dk_180 0 49 (dk_at dksX1_tunes_1 13 rfl rfl)
theorem dX1_tunes_40 : decode cX1_tunes 40 = .ok (.invokevirtual 235, 3) := dk_182 0 235 (dk_at dksX1_tunes_1 16 rfl rfl)
theorem dX1_tunes_43 : decode cX1_tunes 43 = .ok (.astore_n 3, 1) := dk_78 (dk_at dksX1_tunes_1 19 rfl rfl)
theorem dX1_tunes_44 : decode cX1_tunes 44 = .ok (.aload_n 3, 1) := dk_45 (dk_at dksX1_tunes_1 20 rfl rfl)
theorem dX1_tunes_45 : decode cX1_tunes 45 = .ok (.iload_n 1, 1) := dk_27 (dk_at dksX1_tunes_1 21 rfl rfl)
theorem dX1_tunes_46 : decode cX1_tunes 46 = .ok (.iload_n 2, 1) := dk_28 (dk_at dksX1_tunes_1 22 rfl rfl)
theorem dX1_tunes_47 : decode cX1_tunes 47 = .ok (.invokevirtual 345, 3) := dk_182 1 89 (dk_at dksX1_tunes_2 0 rfl rfl)
theorem dX1_tunes_50 : decode cX1_tunes 50 = .ok (.ifCond .eq 11, 3) := dk_153 0 11 (dk_at dksX1_tunes_2 3 rfl rfl)
theorem dX1_tunes_53 : decode cX1_tunes 53 = .ok (.aload_n 3, 1) := dk_45 (dk_at dksX1_tunes_2 6 rfl rfl)
theorem dX1_tunes_54 : decode cX1_tunes 54 = .ok (.iload_n 1, 1) := dk_27 (dk_at dksX1_tunes_2 7 rfl rfl)
theorem dX1_tunes_55 : decode cX1_tunes 55 = .ok (.invokevirtual 326, 3) := dk_182 1 70 (dk_at dksX1_tunes_2 8 rfl rfl)
theorem dX1_tunes_58 : decode cX1_tunes 58 = .ok (.goto 4, 3) := dk_167 0 4 (dk_at dksX1_tunes_2 11 rfl rfl)
theorem dX1_tunes_61 : decode cX1_tunes 61 = .ok (.iconst (-1), 1) := dk_2 (dk_at dksX1_tunes_2 14 rfl rfl)
theorem dX1_tunes_62 : decode cX1_tunes 62 = .ok (.ireturn, 1) := dk_172 (dk_at dksX1_tunes_2 15 rfl rfl)
abbrev cX1_year : ByteArray := prog_1_method_66_code
def yX1_year : MethodName := ⟨RX1, "year", "(IIII)I"⟩
def dkwX1_year_3 : List UInt8 := [182, 1, 15, 167, 0, 15, 25, 5, 42, 180, 0, 22, 180, 1, 6, 182, 1, 9, 172]
abbrev dktX1_year_3 : List UInt8 := dkwX1_year_3 ++ []
def dkwX1_year_2 : List UInt8 := [167, 0, 42, 21, 4, 4, 160, 0, 10, 42, 180, 1, 147, 167, 0, 29, 21, 4, 5, 160, 0, 11, 25, 5]
abbrev dktX1_year_2 : List UInt8 := dkwX1_year_2 ++ dktX1_year_3
def dkwX1_year_1 : List UInt8 := [182, 0, 172, 42, 27, 28, 29, 182, 1, 156, 58, 5, 21, 4, 154, 0, 11, 25, 5, 182, 1, 86]
abbrev dktX1_year_1 : List UInt8 := dkwX1_year_1 ++ dktX1_year_2
def dkwX1_year_0 : List UInt8 := [42, 28, 29, 184, 1, 153, 153, 0, 17, 21, 4, 3, 6, 184, 0, 246, 153, 0, 7, 4, 167, 0, 4, 3]
abbrev dktX1_year_0 : List UInt8 := dkwX1_year_0 ++ dktX1_year_1
theorem dksX1_year_0 : cX1_year.data.toList.drop 0 = dktX1_year_0 := by decide +kernel
theorem dksX1_year_1 : cX1_year.data.toList.drop 24 = dktX1_year_1 := dk_seg dksX1_year_0 24 rfl rfl
theorem dksX1_year_2 : cX1_year.data.toList.drop 46 = dktX1_year_2 := dk_seg dksX1_year_1 22 rfl rfl
theorem dksX1_year_3 : cX1_year.data.toList.drop 70 = dktX1_year_3 := dk_seg dksX1_year_2 24 rfl rfl
theorem dX1_year_0 : decode cX1_year 0 = .ok (.aload_n 0, 1) := dk_42 (dk_at dksX1_year_0 0 rfl rfl)
theorem dX1_year_1 : decode cX1_year 1 = .ok (.iload_n 2, 1) := dk_28 (dk_at dksX1_year_0 1 rfl rfl)
theorem dX1_year_2 : decode cX1_year 2 = .ok (.iload_n 3, 1) := dk_29 (dk_at dksX1_year_0 2 rfl rfl)
theorem dX1_year_3 : decode cX1_year 3 = .ok (.invokestatic 409, 3) := dk_184 1 153 (dk_at dksX1_year_0 3 rfl rfl)
theorem dX1_year_6 : decode cX1_year 6 = .ok (.ifCond .eq 17, 3) := dk_153 0 17 (dk_at dksX1_year_0 6 rfl rfl)
theorem dX1_year_9 : decode cX1_year 9 = .ok (.iload 4, 2) := dk_21 4 (dk_at dksX1_year_0 9 rfl rfl)
theorem dX1_year_11 : decode cX1_year 11 = .ok (.iconst 0, 1) := dk_3 (dk_at dksX1_year_0 11 rfl rfl)
theorem dX1_year_12 : decode cX1_year 12 = .ok (.iconst 3, 1) := dk_6 (dk_at dksX1_year_0 12 rfl rfl)
theorem dX1_year_13 : decode cX1_year 13 = .ok (.invokestatic 246, 3) := dk_184 0 246 (dk_at dksX1_year_0 13 rfl rfl)
theorem dX1_year_16 : decode cX1_year 16 = .ok (.ifCond .eq 7, 3) := dk_153 0 7 (dk_at dksX1_year_0 16 rfl rfl)
theorem dX1_year_19 : decode cX1_year 19 = .ok (.iconst 1, 1) := dk_4 (dk_at dksX1_year_0 19 rfl rfl)
theorem dX1_year_20 : decode cX1_year 20 = .ok (.goto 4, 3) := dk_167 0 4 (dk_at dksX1_year_0 20 rfl rfl)
theorem dX1_year_23 : decode cX1_year 23 = .ok (.iconst 0, 1) := dk_3 (dk_at dksX1_year_0 23 rfl rfl)
theorem dX1_year_24 : decode cX1_year 24 = .ok (.invokevirtual 172, 3) := dk_182 0 172 (dk_at dksX1_year_1 0 rfl rfl)
theorem dX1_year_27 : decode cX1_year 27 = .ok (.aload_n 0, 1) := dk_42 (dk_at dksX1_year_1 3 rfl rfl)
theorem dX1_year_28 : decode cX1_year 28 = .ok (.iload_n 1, 1) := dk_27 (dk_at dksX1_year_1 4 rfl rfl)
theorem dX1_year_29 : decode cX1_year 29 = .ok (.iload_n 2, 1) := dk_28 (dk_at dksX1_year_1 5 rfl rfl)
theorem dX1_year_30 : decode cX1_year 30 = .ok (.iload_n 3, 1) := dk_29 (dk_at dksX1_year_1 6 rfl rfl)
theorem dX1_year_31 : decode cX1_year 31 = .ok (.invokevirtual 412, 3) := dk_182 1 156 (dk_at dksX1_year_1 7 rfl rfl)
theorem dX1_year_34 : decode cX1_year 34 = .ok (.astore 5, 2) := dk_58 5 (dk_at dksX1_year_1 10 rfl rfl)
theorem dX1_year_36 : decode cX1_year 36 = .ok (.iload 4, 2) := dk_21 4 (dk_at dksX1_year_1 12 rfl rfl)
theorem dX1_year_38 : decode cX1_year 38 = .ok (.ifCond .ne 11, 3) := dk_154 0 11 (dk_at dksX1_year_1 14 rfl rfl)
theorem dX1_year_41 : decode cX1_year 41 = .ok (.aload 5, 2) := dk_25 5 (dk_at dksX1_year_1 17 rfl rfl)
theorem dX1_year_43 : decode cX1_year 43 = .ok (.invokevirtual 342, 3) := dk_182 1 86 (dk_at dksX1_year_1 19 rfl rfl)
theorem dX1_year_46 : decode cX1_year 46 = .ok (.goto 42, 3) := dk_167 0 42 (dk_at dksX1_year_2 0 rfl rfl)
theorem dX1_year_49 : decode cX1_year 49 = .ok (.iload 4, 2) := dk_21 4 (dk_at dksX1_year_2 3 rfl rfl)
theorem dX1_year_51 : decode cX1_year 51 = .ok (.iconst 1, 1) := dk_4 (dk_at dksX1_year_2 5 rfl rfl)
theorem dX1_year_52 : decode cX1_year 52 = .ok (.if_icmp .ne 10, 3) := dk_160 0 10 (dk_at dksX1_year_2 6 rfl rfl)
theorem dX1_year_55 : decode cX1_year 55 = .ok (.aload_n 0, 1) := dk_42 (dk_at dksX1_year_2 9 rfl rfl)
theorem dX1_year_56 : decode cX1_year 56 = .ok (.getfield 403, 3) := dk_180 1 147 (dk_at dksX1_year_2 10 rfl rfl)
theorem dX1_year_59 : decode cX1_year 59 = .ok (.goto 29, 3) := dk_167 0 29 (dk_at dksX1_year_2 13 rfl rfl)
theorem dX1_year_62 : decode cX1_year 62 = .ok (.iload 4, 2) := dk_21 4 (dk_at dksX1_year_2 16 rfl rfl)
theorem dX1_year_64 : decode cX1_year 64 = .ok (.iconst 2, 1) := dk_5 (dk_at dksX1_year_2 18 rfl rfl)
theorem dX1_year_65 : decode cX1_year 65 = .ok (.if_icmp .ne 11, 3) := dk_160 0 11 (dk_at dksX1_year_2 19 rfl rfl)
theorem dX1_year_68 : decode cX1_year 68 = .ok (.aload 5, 2) := dk_25 5 (dk_at dksX1_year_2 22 rfl rfl)
theorem dX1_year_70 : decode cX1_year 70 = .ok (.invokevirtual 271, 3) := dk_182 1 15 (dk_at dksX1_year_3 0 rfl rfl)
theorem dX1_year_73 : decode cX1_year 73 = .ok (.goto 15, 3) := dk_167 0 15 (dk_at dksX1_year_3 3 rfl rfl)
theorem dX1_year_76 : decode cX1_year 76 = .ok (.aload 5, 2) := dk_25 5 (dk_at dksX1_year_3 6 rfl rfl)
theorem dX1_year_78 : decode cX1_year 78 = .ok (.aload_n 0, 1) := dk_42 (dk_at dksX1_year_3 8 rfl rfl)
theorem dX1_year_79 : decode cX1_year 79 = .ok (.getfield 22, 3) := dk_180 0 22 (dk_at dksX1_year_3 9 rfl rfl)
theorem dX1_year_82 : decode cX1_year 82 = .ok (.getfield 262, 3) := dk_180 1 6 (dk_at dksX1_year_3 12 rfl rfl)
theorem dX1_year_85 : decode cX1_year 85 = .ok (.invokevirtual 265, 3) := dk_182 1 9 (dk_at dksX1_year_3 15 rfl rfl)
theorem dX1_year_88 : decode cX1_year 88 = .ok (.ireturn, 1) := dk_172 (dk_at dksX1_year_3 18 rfl rfl)
abbrev cX1_isYear : ByteArray := prog_1_method_65_code
def yX1_isYear : MethodName := ⟨RX1, "isYear", "(II)Z"⟩
def dkwX1_isYear_1 : List UInt8 := [3, 172]
abbrev dktX1_isYear_1 : List UInt8 := dkwX1_isYear_1 ++ []
def dkwX1_isYear_0 : List UInt8 := [26, 4, 16, 96, 184, 0, 246, 153, 0, 17, 27, 3, 16, 16, 184, 0, 246, 153, 0, 7, 4, 167, 0, 4]
abbrev dktX1_isYear_0 : List UInt8 := dkwX1_isYear_0 ++ dktX1_isYear_1
theorem dksX1_isYear_0 : cX1_isYear.data.toList.drop 0 = dktX1_isYear_0 := by decide +kernel
theorem dksX1_isYear_1 : cX1_isYear.data.toList.drop 24 = dktX1_isYear_1 := dk_seg dksX1_isYear_0 24 rfl rfl
theorem dX1_isYear_0 : decode cX1_isYear 0 = .ok (.iload_n 0, 1) := dk_26 (dk_at dksX1_isYear_0 0 rfl rfl)
theorem dX1_isYear_1 : decode cX1_isYear 1 = .ok (.iconst 1, 1) := dk_4 (dk_at dksX1_isYear_0 1 rfl rfl)
theorem dX1_isYear_2 : decode cX1_isYear 2 = .ok (.bipush 96, 2) := dk_16 96 (dk_at dksX1_isYear_0 2 rfl rfl)
theorem dX1_isYear_4 : decode cX1_isYear 4 = .ok (.invokestatic 246, 3) := dk_184 0 246 (dk_at dksX1_isYear_0 4 rfl rfl)
theorem dX1_isYear_7 : decode cX1_isYear 7 = .ok (.ifCond .eq 17, 3) := dk_153 0 17 (dk_at dksX1_isYear_0 7 rfl rfl)
theorem dX1_isYear_10 : decode cX1_isYear 10 = .ok (.iload_n 1, 1) := dk_27 (dk_at dksX1_isYear_0 10 rfl rfl)
theorem dX1_isYear_11 : decode cX1_isYear 11 = .ok (.iconst 0, 1) := dk_3 (dk_at dksX1_isYear_0 11 rfl rfl)
theorem dX1_isYear_12 : decode cX1_isYear 12 = .ok (.bipush 16, 2) := dk_16 16 (dk_at dksX1_isYear_0 12 rfl rfl)
theorem dX1_isYear_14 : decode cX1_isYear 14 = .ok (.invokestatic 246, 3) := dk_184 0 246 (dk_at dksX1_isYear_0 14 rfl rfl)
theorem dX1_isYear_17 : decode cX1_isYear 17 = .ok (.ifCond .eq 7, 3) := dk_153 0 7 (dk_at dksX1_isYear_0 17 rfl rfl)
theorem dX1_isYear_20 : decode cX1_isYear 20 = .ok (.iconst 1, 1) := dk_4 (dk_at dksX1_isYear_0 20 rfl rfl)
theorem dX1_isYear_21 : decode cX1_isYear 21 = .ok (.goto 4, 3) := dk_167 0 4 (dk_at dksX1_isYear_0 21 rfl rfl)
theorem dX1_isYear_24 : decode cX1_isYear 24 = .ok (.iconst 0, 1) := dk_3 (dk_at dksX1_isYear_1 0 rfl rfl)
theorem dX1_isYear_25 : decode cX1_isYear 25 = .ok (.ireturn, 1) := dk_172 (dk_at dksX1_isYear_1 1 rfl rfl)
abbrev cX1_yearBy : ByteArray := prog_1_method_64_code
def yX1_yearBy : MethodName := ⟨RX1, "yearBy", "(III)LTunedHouses$Terrace;"⟩
def dkwX1_yearBy_5 : List UInt8 := [25, 4, 176]
abbrev dktX1_yearBy_5 : List UInt8 := dkwX1_yearBy_5 ++ []
def dkwX1_yearBy_4 : List UInt8 := [153, 0, 7, 4, 167, 0, 4, 3, 96, 181, 1, 147, 25, 4, 182, 1, 77, 132, 5, 1, 167, 255, 170]
abbrev dktX1_yearBy_4 : List UInt8 := dkwX1_yearBy_4 ++ dktX1_yearBy_5
def dkwX1_yearBy_3 : List UInt8 := [89, 180, 1, 147, 25, 4, 21, 6, 42, 42, 180, 0, 22, 180, 0, 149, 182, 1, 150, 182, 1, 89]
abbrev dktX1_yearBy_3 : List UInt8 := dkwX1_yearBy_3 ++ dktX1_yearBy_4
def dkwX1_yearBy_2 : List UInt8 := [158, 0, 58, 42, 180, 0, 22, 180, 0, 149, 158, 0, 48, 42, 42, 182, 0, 156, 182, 1, 150, 54, 6, 42]
abbrev dktX1_yearBy_2 : List UInt8 := dkwX1_yearBy_2 ++ dktX1_yearBy_3
def dkwX1_yearBy_1 : List UInt8 := [54, 5, 21, 5, 28, 162, 0, 86, 42, 16, 16, 182, 1, 150, 29, 162, 0, 65, 42, 182, 0, 156]
abbrev dktX1_yearBy_1 : List UInt8 := dkwX1_yearBy_1 ++ dktX1_yearBy_2
def dkwX1_yearBy_0 : List UInt8 := [42, 180, 0, 53, 42, 180, 0, 49, 182, 0, 235, 58, 4, 42, 27, 181, 1, 143, 42, 3, 181, 1, 147, 3]
abbrev dktX1_yearBy_0 : List UInt8 := dkwX1_yearBy_0 ++ dktX1_yearBy_1
theorem dksX1_yearBy_0 : cX1_yearBy.data.toList.drop 0 = dktX1_yearBy_0 := by decide +kernel
theorem dksX1_yearBy_1 : cX1_yearBy.data.toList.drop 24 = dktX1_yearBy_1 := dk_seg dksX1_yearBy_0 24 rfl rfl
theorem dksX1_yearBy_2 : cX1_yearBy.data.toList.drop 46 = dktX1_yearBy_2 := dk_seg dksX1_yearBy_1 22 rfl rfl
theorem dksX1_yearBy_3 : cX1_yearBy.data.toList.drop 70 = dktX1_yearBy_3 := dk_seg dksX1_yearBy_2 24 rfl rfl
theorem dksX1_yearBy_4 : cX1_yearBy.data.toList.drop 92 = dktX1_yearBy_4 := dk_seg dksX1_yearBy_3 22 rfl rfl
theorem dksX1_yearBy_5 : cX1_yearBy.data.toList.drop 115 = dktX1_yearBy_5 := dk_seg dksX1_yearBy_4 23 rfl rfl
theorem dX1_yearBy_0 : decode cX1_yearBy 0 = .ok (.aload_n 0, 1) := dk_42 (dk_at dksX1_yearBy_0 0 rfl rfl)
theorem dX1_yearBy_1 : decode cX1_yearBy 1 = .ok (.getfield 53, 3) := dk_180 0 53 (dk_at dksX1_yearBy_0 1 rfl rfl)
theorem dX1_yearBy_4 : decode cX1_yearBy 4 = .ok (.aload_n 0, 1) := dk_42 (dk_at dksX1_yearBy_0 4 rfl rfl)
theorem dX1_yearBy_5 : decode cX1_yearBy 5 = .ok (.getfield 49, 3) := dk_180 0 49 (dk_at dksX1_yearBy_0 5 rfl rfl)
theorem dX1_yearBy_8 : decode cX1_yearBy 8 = .ok (.invokevirtual 235, 3) := dk_182 0 235 (dk_at dksX1_yearBy_0 8 rfl rfl)
theorem dX1_yearBy_11 : decode cX1_yearBy 11 = .ok (.astore 4, 2) := dk_58 4 (dk_at dksX1_yearBy_0 11 rfl rfl)
theorem dX1_yearBy_13 : decode cX1_yearBy 13 = .ok (.aload_n 0, 1) := dk_42 (dk_at dksX1_yearBy_0 13 rfl rfl)
theorem dX1_yearBy_14 : decode cX1_yearBy 14 = .ok (.iload_n 1, 1) := dk_27 (dk_at dksX1_yearBy_0 14 rfl rfl)
theorem dX1_yearBy_15 : decode cX1_yearBy 15 = .ok (.putfield 399, 3) := dk_181 1 143 (dk_at dksX1_yearBy_0 15 rfl rfl)
theorem dX1_yearBy_18 : decode cX1_yearBy 18 = .ok (.aload_n 0, 1) := dk_42 (dk_at dksX1_yearBy_0 18 rfl rfl)
theorem dX1_yearBy_19 : decode cX1_yearBy 19 = .ok (.iconst 0, 1) := dk_3 (dk_at dksX1_yearBy_0 19 rfl rfl)
theorem dX1_yearBy_20 : decode cX1_yearBy 20 = .ok (.putfield 403, 3) := dk_181 1 147 (dk_at dksX1_yearBy_0 20 rfl rfl)
theorem dX1_yearBy_23 : decode cX1_yearBy 23 = .ok (.iconst 0, 1) := dk_3 (dk_at dksX1_yearBy_0 23 rfl rfl)
theorem dX1_yearBy_24 : decode cX1_yearBy 24 = .ok (.istore 5, 2) := dk_54 5 (dk_at dksX1_yearBy_1 0 rfl rfl)
theorem dX1_yearBy_26 : decode cX1_yearBy 26 = .ok (.iload 5, 2) := dk_21 5 (dk_at dksX1_yearBy_1 2 rfl rfl)
theorem dX1_yearBy_28 : decode cX1_yearBy 28 = .ok (.iload_n 2, 1) := dk_28 (dk_at dksX1_yearBy_1 4 rfl rfl)
theorem dX1_yearBy_29 : decode cX1_yearBy 29 = .ok (.if_icmp .ge 86, 3) := dk_162 0 86 (dk_at dksX1_yearBy_1 5 rfl rfl)
theorem dX1_yearBy_32 : decode cX1_yearBy 32 = .ok (.aload_n 0, 1) := dk_42 (dk_at dksX1_yearBy_1 8 rfl rfl)
theorem dX1_yearBy_33 : decode cX1_yearBy 33 = .ok (.bipush 16, 2) := dk_16 16 (dk_at dksX1_yearBy_1 9 rfl rfl)
theorem dX1_yearBy_35 : decode cX1_yearBy 35 = .ok (.invokevirtual 406, 3) := dk_182 1 150 (dk_at dksX1_yearBy_1 11 rfl rfl)
theorem dX1_yearBy_38 : decode cX1_yearBy 38 = .ok (.iload_n 3, 1) := dk_29 (dk_at dksX1_yearBy_1 14 rfl rfl)
theorem dX1_yearBy_39 : decode cX1_yearBy 39 = .ok (.if_icmp .ge 65, 3) := dk_162 0 65 (dk_at dksX1_yearBy_1 15 rfl rfl)
theorem dX1_yearBy_42 : decode cX1_yearBy 42 = .ok (.aload_n 0, 1) := dk_42 (dk_at dksX1_yearBy_1 18 rfl rfl)
theorem dX1_yearBy_43 : decode cX1_yearBy 43 = .ok (.invokevirtual 156, 3) := dk_182 0 156 (dk_at dksX1_yearBy_1 19 rfl rfl)
theorem dX1_yearBy_46 : decode cX1_yearBy 46 = .ok (.ifCond .le 58, 3) := dk_158 0 58 (dk_at dksX1_yearBy_2 0 rfl rfl)
theorem dX1_yearBy_49 : decode cX1_yearBy 49 = .ok (.aload_n 0, 1) := dk_42 (dk_at dksX1_yearBy_2 3 rfl rfl)
theorem dX1_yearBy_50 : decode cX1_yearBy 50 = .ok (.getfield 22, 3) := dk_180 0 22 (dk_at dksX1_yearBy_2 4 rfl rfl)
theorem dX1_yearBy_53 : decode cX1_yearBy 53 = .ok (.getfield 149, 3) := dk_180 0 149 (dk_at dksX1_yearBy_2 7 rfl rfl)
theorem dX1_yearBy_56 : decode cX1_yearBy 56 = .ok (.ifCond .le 48, 3) := dk_158 0 48 (dk_at dksX1_yearBy_2 10 rfl rfl)
theorem dX1_yearBy_59 : decode cX1_yearBy 59 = .ok (.aload_n 0, 1) := dk_42 (dk_at dksX1_yearBy_2 13 rfl rfl)
theorem dX1_yearBy_60 : decode cX1_yearBy 60 = .ok (.aload_n 0, 1) := dk_42 (dk_at dksX1_yearBy_2 14 rfl rfl)
theorem dX1_yearBy_61 : decode cX1_yearBy 61 = .ok (.invokevirtual 156, 3) := dk_182 0 156 (dk_at dksX1_yearBy_2 15 rfl rfl)
theorem dX1_yearBy_64 : decode cX1_yearBy 64 = .ok (.invokevirtual 406, 3) := dk_182 1 150 (dk_at dksX1_yearBy_2 18 rfl rfl)
theorem dX1_yearBy_67 : decode cX1_yearBy 67 = .ok (.istore 6, 2) := dk_54 6 (dk_at dksX1_yearBy_2 21 rfl rfl)
theorem dX1_yearBy_69 : decode cX1_yearBy 69 = .ok (.aload_n 0, 1) := dk_42 (dk_at dksX1_yearBy_2 23 rfl rfl)
theorem dX1_yearBy_70 : decode cX1_yearBy 70 = .ok (.dup, 1) := dk_89 (dk_at dksX1_yearBy_3 0 rfl rfl)
theorem dX1_yearBy_71 : decode cX1_yearBy 71 = .ok (.getfield 403, 3) := dk_180 1 147 (dk_at dksX1_yearBy_3 1 rfl rfl)
theorem dX1_yearBy_74 : decode cX1_yearBy 74 = .ok (.aload 4, 2) := dk_25 4 (dk_at dksX1_yearBy_3 4 rfl rfl)
theorem dX1_yearBy_76 : decode cX1_yearBy 76 = .ok (.iload 6, 2) := dk_21 6 (dk_at dksX1_yearBy_3 6 rfl rfl)
theorem dX1_yearBy_78 : decode cX1_yearBy 78 = .ok (.aload_n 0, 1) := dk_42 (dk_at dksX1_yearBy_3 8 rfl rfl)
theorem dX1_yearBy_79 : decode cX1_yearBy 79 = .ok (.aload_n 0, 1) := dk_42 (dk_at dksX1_yearBy_3 9 rfl rfl)
theorem dX1_yearBy_80 : decode cX1_yearBy 80 = .ok (.getfield 22, 3) := dk_180 0 22 (dk_at dksX1_yearBy_3 10 rfl rfl)
theorem dX1_yearBy_83 : decode cX1_yearBy 83 = .ok (.getfield 149, 3) := dk_180 0 149 (dk_at dksX1_yearBy_3 13 rfl rfl)
theorem dX1_yearBy_86 : decode cX1_yearBy 86 = .ok (.invokevirtual 406, 3) := dk_182 1 150 (dk_at dksX1_yearBy_3 16 rfl rfl)
theorem dX1_yearBy_89 : decode cX1_yearBy 89 = .ok (.invokevirtual 345, 3) := dk_182 1 89 (dk_at dksX1_yearBy_3 19 rfl rfl)
theorem dX1_yearBy_92 : decode cX1_yearBy 92 = .ok (.ifCond .eq 7, 3) := dk_153 0 7 (dk_at dksX1_yearBy_4 0 rfl rfl)
theorem dX1_yearBy_95 : decode cX1_yearBy 95 = .ok (.iconst 1, 1) := dk_4 (dk_at dksX1_yearBy_4 3 rfl rfl)
theorem dX1_yearBy_96 : decode cX1_yearBy 96 = .ok (.goto 4, 3) := dk_167 0 4 (dk_at dksX1_yearBy_4 4 rfl rfl)
theorem dX1_yearBy_99 : decode cX1_yearBy 99 = .ok (.iconst 0, 1) := dk_3 (dk_at dksX1_yearBy_4 7 rfl rfl)
theorem dX1_yearBy_100 : decode cX1_yearBy 100 = .ok (.iadd, 1) := dk_96 (dk_at dksX1_yearBy_4 8 rfl rfl)
theorem dX1_yearBy_101 : decode cX1_yearBy 101 = .ok (.putfield 403, 3) := dk_181 1 147 (dk_at dksX1_yearBy_4 9 rfl rfl)
theorem dX1_yearBy_104 : decode cX1_yearBy 104 = .ok (.aload 4, 2) := dk_25 4 (dk_at dksX1_yearBy_4 12 rfl rfl)
theorem dX1_yearBy_106 : decode cX1_yearBy 106 = .ok (.invokevirtual 333, 3) := dk_182 1 77 (dk_at dksX1_yearBy_4 14 rfl rfl)
theorem dX1_yearBy_109 : decode cX1_yearBy 109 = .ok (.iinc 5 1, 3) := dk_132 5 1 (dk_at dksX1_yearBy_4 17 rfl rfl)
theorem dX1_yearBy_112 : decode cX1_yearBy 112 = .ok (.goto (-86), 3) := dk_167 255 170 (dk_at dksX1_yearBy_4 20 rfl rfl)
theorem dX1_yearBy_115 : decode cX1_yearBy 115 = .ok (.aload 4, 2) := dk_25 4 (dk_at dksX1_yearBy_5 0 rfl rfl)
theorem dX1_yearBy_117 : decode cX1_yearBy 117 = .ok (.areturn, 1) := dk_176 (dk_at dksX1_yearBy_5 2 rfl rfl)
abbrev cX1_draw : ByteArray := prog_1_method_63_code
def yX1_draw : MethodName := ⟨RX1, "draw", "(I)I"⟩
def dkwX1_draw_1 : List UInt8 := [17, 127, 255, 126, 27, 112, 172]
abbrev dktX1_draw_1 : List UInt8 := dkwX1_draw_1 ++ []
def dkwX1_draw_0 : List UInt8 := [42, 42, 180, 1, 143, 19, 1, 146, 104, 17, 48, 57, 96, 181, 1, 143, 42, 180, 1, 143, 16, 16, 122]
abbrev dktX1_draw_0 : List UInt8 := dkwX1_draw_0 ++ dktX1_draw_1
theorem dksX1_draw_0 : cX1_draw.data.toList.drop 0 = dktX1_draw_0 := by decide +kernel
theorem dksX1_draw_1 : cX1_draw.data.toList.drop 23 = dktX1_draw_1 := dk_seg dksX1_draw_0 23 rfl rfl
theorem dX1_draw_0 : decode cX1_draw 0 = .ok (.aload_n 0, 1) := dk_42 (dk_at dksX1_draw_0 0 rfl rfl)
theorem dX1_draw_1 : decode cX1_draw 1 = .ok (.aload_n 0, 1) := dk_42 (dk_at dksX1_draw_0 1 rfl rfl)
theorem dX1_draw_2 : decode cX1_draw 2 = .ok (.getfield 399, 3) := dk_180 1 143 (dk_at dksX1_draw_0 2 rfl rfl)
theorem dX1_draw_5 : decode cX1_draw 5 = .ok (.ldc_w 402, 3) := dk_19 1 146 (dk_at dksX1_draw_0 5 rfl rfl)
theorem dX1_draw_8 : decode cX1_draw 8 = .ok (.imul, 1) := dk_104 (dk_at dksX1_draw_0 8 rfl rfl)
theorem dX1_draw_9 : decode cX1_draw 9 = .ok (.sipush 12345, 3) := dk_17 48 57 (dk_at dksX1_draw_0 9 rfl rfl)
theorem dX1_draw_12 : decode cX1_draw 12 = .ok (.iadd, 1) := dk_96 (dk_at dksX1_draw_0 12 rfl rfl)
theorem dX1_draw_13 : decode cX1_draw 13 = .ok (.putfield 399, 3) := dk_181 1 143 (dk_at dksX1_draw_0 13 rfl rfl)
theorem dX1_draw_16 : decode cX1_draw 16 = .ok (.aload_n 0, 1) := dk_42 (dk_at dksX1_draw_0 16 rfl rfl)
theorem dX1_draw_17 : decode cX1_draw 17 = .ok (.getfield 399, 3) := dk_180 1 143 (dk_at dksX1_draw_0 17 rfl rfl)
theorem dX1_draw_20 : decode cX1_draw 20 = .ok (.bipush 16, 2) := dk_16 16 (dk_at dksX1_draw_0 20 rfl rfl)
theorem dX1_draw_22 : decode cX1_draw 22 = .ok (.ishr, 1) := dk_122 (dk_at dksX1_draw_0 22 rfl rfl)
theorem dX1_draw_23 : decode cX1_draw 23 = .ok (.sipush 32767, 3) := dk_17 127 255 (dk_at dksX1_draw_1 0 rfl rfl)
theorem dX1_draw_26 : decode cX1_draw 26 = .ok (.iand, 1) := dk_126 (dk_at dksX1_draw_1 3 rfl rfl)
theorem dX1_draw_27 : decode cX1_draw 27 = .ok (.iload_n 1, 1) := dk_27 (dk_at dksX1_draw_1 4 rfl rfl)
theorem dX1_draw_28 : decode cX1_draw 28 = .ok (.irem, 1) := dk_112 (dk_at dksX1_draw_1 5 rfl rfl)
theorem dX1_draw_29 : decode cX1_draw 29 = .ok (.ireturn, 1) := dk_172 (dk_at dksX1_draw_1 6 rfl rfl)
abbrev cX1_span : ByteArray := prog_1_method_67_code
def yX1_span : MethodName := ⟨RX1, "span", "(IIIIII)I"⟩
def dkwX1_span_7 : List UInt8 := [160, 0, 8, 21, 8, 167, 0, 5, 21, 9, 172]
abbrev dktX1_span_7 : List UInt8 := dkwX1_span_7 ++ []
def dkwX1_span_6 : List UInt8 := [96, 54, 9, 132, 10, 1, 167, 255, 175, 21, 5, 154, 0, 8, 21, 7, 167, 0, 16, 21, 5, 4]
abbrev dktX1_span_6 : List UInt8 := dkwX1_span_6 ++ dktX1_span_7
def dkwX1_span_5 : List UInt8 := [21, 12, 184, 0, 140, 54, 8, 21, 9, 21, 11, 21, 6, 184, 1, 93, 153, 0, 7, 4, 167, 0, 4, 3]
abbrev dktX1_span_5 : List UInt8 := dkwX1_span_5 ++ dktX1_span_6
def dkwX1_span_4 : List UInt8 := [54, 12, 21, 7, 2, 160, 0, 8, 21, 12, 167, 0, 10, 21, 7, 21, 12, 184, 0, 134, 54, 7, 21, 8]
abbrev dktX1_span_4 : List UInt8 := dkwX1_span_4 ++ dktX1_span_5
def dkwX1_span_3 : List UInt8 := [162, 0, 81, 42, 27, 21, 10, 96, 29, 21, 4, 182, 1, 156, 182, 1, 86, 54, 11, 21, 11, 184, 1, 117]
abbrev dktX1_span_3 : List UInt8 := dkwX1_span_3 ++ dktX1_span_4
def dkwX1_span_2 : List UInt8 := [4, 167, 0, 4, 3, 182, 0, 172, 2, 54, 7, 3, 54, 8, 3, 54, 9, 3, 54, 10, 21, 10, 28]
abbrev dktX1_span_2 : List UInt8 := dkwX1_span_2 ++ dktX1_span_3
def dkwX1_span_1 : List UInt8 := [184, 0, 246, 153, 0, 25, 21, 6, 3, 42, 180, 0, 22, 180, 0, 149, 4, 100, 184, 0, 246, 153, 0, 7]
abbrev dktX1_span_1 : List UInt8 := dkwX1_span_1 ++ dktX1_span_2
def dkwX1_span_0 : List UInt8 := [42, 28, 4, 16, 20, 184, 0, 246, 153, 0, 44, 29, 21, 4, 184, 1, 153, 153, 0, 35, 21, 5, 3, 5]
abbrev dktX1_span_0 : List UInt8 := dkwX1_span_0 ++ dktX1_span_1
theorem dksX1_span_0 : cX1_span.data.toList.drop 0 = dktX1_span_0 := by decide +kernel
theorem dksX1_span_1 : cX1_span.data.toList.drop 24 = dktX1_span_1 := dk_seg dksX1_span_0 24 rfl rfl
theorem dksX1_span_2 : cX1_span.data.toList.drop 48 = dktX1_span_2 := dk_seg dksX1_span_1 24 rfl rfl
theorem dksX1_span_3 : cX1_span.data.toList.drop 71 = dktX1_span_3 := dk_seg dksX1_span_2 23 rfl rfl
theorem dksX1_span_4 : cX1_span.data.toList.drop 95 = dktX1_span_4 := dk_seg dksX1_span_3 24 rfl rfl
theorem dksX1_span_5 : cX1_span.data.toList.drop 119 = dktX1_span_5 := dk_seg dksX1_span_4 24 rfl rfl
theorem dksX1_span_6 : cX1_span.data.toList.drop 143 = dktX1_span_6 := dk_seg dksX1_span_5 24 rfl rfl
theorem dksX1_span_7 : cX1_span.data.toList.drop 165 = dktX1_span_7 := dk_seg dksX1_span_6 22 rfl rfl
theorem dX1_span_0 : decode cX1_span 0 = .ok (.aload_n 0, 1) := dk_42 (dk_at dksX1_span_0 0 rfl rfl)
theorem dX1_span_1 : decode cX1_span 1 = .ok (.iload_n 2, 1) := dk_28 (dk_at dksX1_span_0 1 rfl rfl)
theorem dX1_span_2 : decode cX1_span 2 = .ok (.iconst 1, 1) := dk_4 (dk_at dksX1_span_0 2 rfl rfl)
theorem dX1_span_3 : decode cX1_span 3 = .ok (.bipush 20, 2) := dk_16 20 (dk_at dksX1_span_0 3 rfl rfl)
theorem dX1_span_5 : decode cX1_span 5 = .ok (.invokestatic 246, 3) := dk_184 0 246 (dk_at dksX1_span_0 5 rfl rfl)
theorem dX1_span_8 : decode cX1_span 8 = .ok (.ifCond .eq 44, 3) := dk_153 0 44 (dk_at dksX1_span_0 8 rfl rfl)
theorem dX1_span_11 : decode cX1_span 11 = .ok (.iload_n 3, 1) := dk_29 (dk_at dksX1_span_0 11 rfl rfl)
theorem dX1_span_12 : decode cX1_span 12 = .ok (.iload 4, 2) := dk_21 4 (dk_at dksX1_span_0 12 rfl rfl)
theorem dX1_span_14 : decode cX1_span 14 = .ok (.invokestatic 409, 3) := dk_184 1 153 (dk_at dksX1_span_0 14 rfl rfl)
theorem dX1_span_17 : decode cX1_span 17 = .ok (.ifCond .eq 35, 3) := dk_153 0 35 (dk_at dksX1_span_0 17 rfl rfl)
theorem dX1_span_20 : decode cX1_span 20 = .ok (.iload 5, 2) := dk_21 5 (dk_at dksX1_span_0 20 rfl rfl)
theorem dX1_span_22 : decode cX1_span 22 = .ok (.iconst 0, 1) := dk_3 (dk_at dksX1_span_0 22 rfl rfl)
theorem dX1_span_23 : decode cX1_span 23 = .ok (.iconst 2, 1) := dk_5 (dk_at dksX1_span_0 23 rfl rfl)
theorem dX1_span_24 : decode cX1_span 24 = .ok (.invokestatic 246, 3) := dk_184 0 246 (dk_at dksX1_span_1 0 rfl rfl)
theorem dX1_span_27 : decode cX1_span 27 = .ok (.ifCond .eq 25, 3) := dk_153 0 25 (dk_at dksX1_span_1 3 rfl rfl)
theorem dX1_span_30 : decode cX1_span 30 = .ok (.iload 6, 2) := dk_21 6 (dk_at dksX1_span_1 6 rfl rfl)
theorem dX1_span_32 : decode cX1_span 32 = .ok (.iconst 0, 1) := dk_3 (dk_at dksX1_span_1 8 rfl rfl)
theorem dX1_span_33 : decode cX1_span 33 = .ok (.aload_n 0, 1) := dk_42 (dk_at dksX1_span_1 9 rfl rfl)
theorem dX1_span_34 : decode cX1_span 34 = .ok (.getfield 22, 3) := dk_180 0 22 (dk_at dksX1_span_1 10 rfl rfl)
theorem dX1_span_37 : decode cX1_span 37 = .ok (.getfield 149, 3) := dk_180 0 149 (dk_at dksX1_span_1 13 rfl rfl)
theorem dX1_span_40 : decode cX1_span 40 = .ok (.iconst 1, 1) := dk_4 (dk_at dksX1_span_1 16 rfl rfl)
theorem dX1_span_41 : decode cX1_span 41 = .ok (.isub, 1) := dk_100 (dk_at dksX1_span_1 17 rfl rfl)
theorem dX1_span_42 : decode cX1_span 42 = .ok (.invokestatic 246, 3) := dk_184 0 246 (dk_at dksX1_span_1 18 rfl rfl)
theorem dX1_span_45 : decode cX1_span 45 = .ok (.ifCond .eq 7, 3) := dk_153 0 7 (dk_at dksX1_span_1 21 rfl rfl)
theorem dX1_span_48 : decode cX1_span 48 = .ok (.iconst 1, 1) := dk_4 (dk_at dksX1_span_2 0 rfl rfl)
theorem dX1_span_49 : decode cX1_span 49 = .ok (.goto 4, 3) := dk_167 0 4 (dk_at dksX1_span_2 1 rfl rfl)
theorem dX1_span_52 : decode cX1_span 52 = .ok (.iconst 0, 1) := dk_3 (dk_at dksX1_span_2 4 rfl rfl)
theorem dX1_span_53 : decode cX1_span 53 = .ok (.invokevirtual 172, 3) := dk_182 0 172 (dk_at dksX1_span_2 5 rfl rfl)
theorem dX1_span_56 : decode cX1_span 56 = .ok (.iconst (-1), 1) := dk_2 (dk_at dksX1_span_2 8 rfl rfl)
theorem dX1_span_57 : decode cX1_span 57 = .ok (.istore 7, 2) := dk_54 7 (dk_at dksX1_span_2 9 rfl rfl)
theorem dX1_span_59 : decode cX1_span 59 = .ok (.iconst 0, 1) := dk_3 (dk_at dksX1_span_2 11 rfl rfl)
theorem dX1_span_60 : decode cX1_span 60 = .ok (.istore 8, 2) := dk_54 8 (dk_at dksX1_span_2 12 rfl rfl)
theorem dX1_span_62 : decode cX1_span 62 = .ok (.iconst 0, 1) := dk_3 (dk_at dksX1_span_2 14 rfl rfl)
theorem dX1_span_63 : decode cX1_span 63 = .ok (.istore 9, 2) := dk_54 9 (dk_at dksX1_span_2 15 rfl rfl)
theorem dX1_span_65 : decode cX1_span 65 = .ok (.iconst 0, 1) := dk_3 (dk_at dksX1_span_2 17 rfl rfl)
theorem dX1_span_66 : decode cX1_span 66 = .ok (.istore 10, 2) := dk_54 10 (dk_at dksX1_span_2 18 rfl rfl)
theorem dX1_span_68 : decode cX1_span 68 = .ok (.iload 10, 2) := dk_21 10 (dk_at dksX1_span_2 20 rfl rfl)
theorem dX1_span_70 : decode cX1_span 70 = .ok (.iload_n 2, 1) := dk_28 (dk_at dksX1_span_2 22 rfl rfl)
theorem dX1_span_71 : decode cX1_span 71 = .ok (.if_icmp .ge 81, 3) := dk_162 0 81 (dk_at dksX1_span_3 0 rfl rfl)
theorem dX1_span_74 : decode cX1_span 74 = .ok (.aload_n 0, 1) := dk_42 (dk_at dksX1_span_3 3 rfl rfl)
theorem dX1_span_75 : decode cX1_span 75 = .ok (.iload_n 1, 1) := dk_27 (dk_at dksX1_span_3 4 rfl rfl)
theorem dX1_span_76 : decode cX1_span 76 = .ok (.iload 10, 2) := dk_21 10 (dk_at dksX1_span_3 5 rfl rfl)
theorem dX1_span_78 : decode cX1_span 78 = .ok (.iadd, 1) := dk_96 (dk_at dksX1_span_3 7 rfl rfl)
theorem dX1_span_79 : decode cX1_span 79 = .ok (.iload_n 3, 1) := dk_29 (dk_at dksX1_span_3 8 rfl rfl)
theorem dX1_span_80 : decode cX1_span 80 = .ok (.iload 4, 2) := dk_21 4 (dk_at dksX1_span_3 9 rfl rfl)
theorem dX1_span_82 : decode cX1_span 82 = .ok (.invokevirtual 412, 3) := dk_182 1 156 (dk_at dksX1_span_3 11 rfl rfl)
theorem dX1_span_85 : decode cX1_span 85 = .ok (.invokevirtual 342, 3) := dk_182 1 86 (dk_at dksX1_span_3 14 rfl rfl)
theorem dX1_span_88 : decode cX1_span 88 = .ok (.istore 11, 2) := dk_54 11 (dk_at dksX1_span_3 17 rfl rfl)
theorem dX1_span_90 : decode cX1_span 90 = .ok (.iload 11, 2) := dk_21 11 (dk_at dksX1_span_3 19 rfl rfl)
theorem dX1_span_92 : decode cX1_span 92 = .ok (.invokestatic 373, 3) := dk_184 1 117 (dk_at dksX1_span_3 21 rfl rfl)
theorem dX1_span_95 : decode cX1_span 95 = .ok (.istore 12, 2) := dk_54 12 (dk_at dksX1_span_4 0 rfl rfl)
theorem dX1_span_97 : decode cX1_span 97 = .ok (.iload 7, 2) := dk_21 7 (dk_at dksX1_span_4 2 rfl rfl)
theorem dX1_span_99 : decode cX1_span 99 = .ok (.iconst (-1), 1) := dk_2 (dk_at dksX1_span_4 4 rfl rfl)
theorem dX1_span_100 : decode cX1_span 100 = .ok (.if_icmp .ne 8, 3) := dk_160 0 8 (dk_at dksX1_span_4 5 rfl rfl)
theorem dX1_span_103 : decode cX1_span 103 = .ok (.iload 12, 2) := dk_21 12 (dk_at dksX1_span_4 8 rfl rfl)
theorem dX1_span_105 : decode cX1_span 105 = .ok (.goto 10, 3) := dk_167 0 10 (dk_at dksX1_span_4 10 rfl rfl)
theorem dX1_span_108 : decode cX1_span 108 = .ok (.iload 7, 2) := dk_21 7 (dk_at dksX1_span_4 13 rfl rfl)
theorem dX1_span_110 : decode cX1_span 110 = .ok (.iload 12, 2) := dk_21 12 (dk_at dksX1_span_4 15 rfl rfl)
theorem dX1_span_112 : decode cX1_span 112 = .ok (.invokestatic 134, 3) := dk_184 0 134 (dk_at dksX1_span_4 17 rfl rfl)
theorem dX1_span_115 : decode cX1_span 115 = .ok (.istore 7, 2) := dk_54 7 (dk_at dksX1_span_4 20 rfl rfl)
theorem dX1_span_117 : decode cX1_span 117 = .ok (.iload 8, 2) := dk_21 8 (dk_at dksX1_span_4 22 rfl rfl)
theorem dX1_span_119 : decode cX1_span 119 = .ok (.iload 12, 2) := dk_21 12 (dk_at dksX1_span_5 0 rfl rfl)
theorem dX1_span_121 : decode cX1_span 121 = .ok (.invokestatic 140, 3) := dk_184 0 140 (dk_at dksX1_span_5 2 rfl rfl)
theorem dX1_span_124 : decode cX1_span 124 = .ok (.istore 8, 2) := dk_54 8 (dk_at dksX1_span_5 5 rfl rfl)
theorem dX1_span_126 : decode cX1_span 126 = .ok (.iload 9, 2) := dk_21 9 (dk_at dksX1_span_5 7 rfl rfl)
theorem dX1_span_128 : decode cX1_span 128 = .ok (.iload 11, 2) := dk_21 11 (dk_at dksX1_span_5 9 rfl rfl)
theorem dX1_span_130 : decode cX1_span 130 = .ok (.iload 6, 2) := dk_21 6 (dk_at dksX1_span_5 11 rfl rfl)
theorem dX1_span_132 : decode cX1_span 132 = .ok (.invokestatic 349, 3) := dk_184 1 93 (dk_at dksX1_span_5 13 rfl rfl)
theorem dX1_span_135 : decode cX1_span 135 = .ok (.ifCond .eq 7, 3) := dk_153 0 7 (dk_at dksX1_span_5 16 rfl rfl)
theorem dX1_span_138 : decode cX1_span 138 = .ok (.iconst 1, 1) := dk_4 (dk_at dksX1_span_5 19 rfl rfl)
theorem dX1_span_139 : decode cX1_span 139 = .ok (.goto 4, 3) := dk_167 0 4 (dk_at dksX1_span_5 20 rfl rfl)
theorem dX1_span_142 : decode cX1_span 142 = .ok (.iconst 0, 1) := dk_3 (dk_at dksX1_span_5 23 rfl rfl)
theorem dX1_span_143 : decode cX1_span 143 = .ok (.iadd, 1) := dk_96 (dk_at dksX1_span_6 0 rfl rfl)
theorem dX1_span_144 : decode cX1_span 144 = .ok (.istore 9, 2) := dk_54 9 (dk_at dksX1_span_6 1 rfl rfl)
theorem dX1_span_146 : decode cX1_span 146 = .ok (.iinc 10 1, 3) := dk_132 10 1 (dk_at dksX1_span_6 3 rfl rfl)
theorem dX1_span_149 : decode cX1_span 149 = .ok (.goto (-81), 3) := dk_167 255 175 (dk_at dksX1_span_6 6 rfl rfl)
theorem dX1_span_152 : decode cX1_span 152 = .ok (.iload 5, 2) := dk_21 5 (dk_at dksX1_span_6 9 rfl rfl)
theorem dX1_span_154 : decode cX1_span 154 = .ok (.ifCond .ne 8, 3) := dk_154 0 8 (dk_at dksX1_span_6 11 rfl rfl)
theorem dX1_span_157 : decode cX1_span 157 = .ok (.iload 7, 2) := dk_21 7 (dk_at dksX1_span_6 14 rfl rfl)
theorem dX1_span_159 : decode cX1_span 159 = .ok (.goto 16, 3) := dk_167 0 16 (dk_at dksX1_span_6 16 rfl rfl)
theorem dX1_span_162 : decode cX1_span 162 = .ok (.iload 5, 2) := dk_21 5 (dk_at dksX1_span_6 19 rfl rfl)
theorem dX1_span_164 : decode cX1_span 164 = .ok (.iconst 1, 1) := dk_4 (dk_at dksX1_span_6 21 rfl rfl)
theorem dX1_span_165 : decode cX1_span 165 = .ok (.if_icmp .ne 8, 3) := dk_160 0 8 (dk_at dksX1_span_7 0 rfl rfl)
theorem dX1_span_168 : decode cX1_span 168 = .ok (.iload 8, 2) := dk_21 8 (dk_at dksX1_span_7 3 rfl rfl)
theorem dX1_span_170 : decode cX1_span 170 = .ok (.goto 5, 3) := dk_167 0 5 (dk_at dksX1_span_7 5 rfl rfl)
theorem dX1_span_173 : decode cX1_span 173 = .ok (.iload 9, 2) := dk_21 9 (dk_at dksX1_span_7 8 rfl rfl)
theorem dX1_span_175 : decode cX1_span 175 = .ok (.ireturn, 1) := dk_172 (dk_at dksX1_span_7 10 rfl rfl)
theorem q99 : (Jvm.Cond.initialized "TunedHouses") ∈ lw_all := lw_g (lw_at lw_m1 1 rfl) rfl
theorem q150 : (Jvm.Cond.instantiable "TunedHouses" (26 : Nat)) ∈ lw_all := lw_g (lw_at lw_m1 52 rfl) rfl
theorem q152 : (Jvm.Cond.instanceMethod ({ cls := "TunedHouses", name := "<init>", desc := "()V" } : Jvm.MethodName)) ∈ lw_all := lw_g (lw_at lw_m1 54 rfl) rfl
theorem q153 : (Jvm.Cond.code ({ cls := "TunedHouses", name := "<init>", desc := "()V" } : Jvm.MethodName) prog_1_method_2_code (1 : Nat) (Option.none : Option Jvm.ClassFile.FieldType)) ∈ lw_all := lw_g (lw_at lw_m1 55 rfl) rfl
theorem q154 : (Jvm.Cond.methodLink "TunedHouses" (14 : Nat) ({ cls := "java/lang/Object", name := "<init>", desc := "()V" } : Jvm.MethodName)) ∈ lw_all := lw_g (lw_at lw_m1 56 rfl) rfl
theorem q157 : (Jvm.Cond.classLink "TunedHouses" (19 : Nat) "TunedHouses$Told") ∈ lw_all := lw_g (lw_at lw_m1 59 rfl) rfl
theorem q159 : (Jvm.Cond.methodLinkNest "TunedHouses" (21 : Nat) ({ cls := "TunedHouses$Told", name := "<init>", desc := "()V" } : Jvm.MethodName) "TunedHouses") ∈ lw_tbl := lw_at lw_m1 61 rfl
theorem q509 : (Jvm.Cond.fieldLinkNest "TunedHouses" (289 : Nat) "TunedHouses$Told" "thing" "[I" "TunedHouses") ∈ lw_tbl := lw_at lw_m2 171 rfl
theorem q512 : (Jvm.Cond.fieldLinkNest "TunedHouses" (262 : Nat) "TunedHouses$Told" "wish" "[I" "TunedHouses") ∈ lw_tbl := lw_at lw_m2 174 rfl
theorem q516 : (Jvm.Cond.fieldLinkNest "TunedHouses" (283 : Nat) "TunedHouses$Told" "through" "[I" "TunedHouses") ∈ lw_tbl := lw_at lw_m2 178 rfl
theorem q518 : (Jvm.Cond.fieldLinkNest "TunedHouses" (299 : Nat) "TunedHouses$Told" "one" "[I" "TunedHouses") ∈ lw_tbl := lw_at lw_m2 180 rfl
theorem q520 : (Jvm.Cond.fieldLinkNest "TunedHouses" (302 : Nat) "TunedHouses$Told" "other" "[I" "TunedHouses") ∈ lw_tbl := lw_at lw_m2 182 rfl
theorem q524 : (Jvm.Cond.fieldLinkNest "TunedHouses" (112 : Nat) "TunedHouses$Told" "pianos" "Ljava/util/ArrayList;" "TunedHouses") ∈ lw_tbl := lw_at lw_m2 186 rfl
theorem q528 : (Jvm.Cond.fieldLinkNest "TunedHouses" (149 : Nat) "TunedHouses$Told" "houses" "I" "TunedHouses") ∈ lw_tbl := lw_at lw_m2 190 rfl
theorem q531 : (Jvm.Cond.fieldLinkNest "TunedHouses" (250 : Nat) "TunedHouses$Told" "walls" "I" "TunedHouses") ∈ lw_tbl := lw_at lw_m2 193 rfl
theorem q557 : (Jvm.Cond.methodLink "TunedHouses" (26 : Nat) ({ cls := "TunedHouses", name := "custom", desc := "()LTunedHouses$Term;" } : Jvm.MethodName)) ∈ lw_all := lw_g (lw_at lw_m2 219 rfl) rfl
theorem q558 : (Jvm.Cond.static ({ cls := "TunedHouses", name := "custom", desc := "()LTunedHouses$Term;" } : Jvm.MethodName)) ∈ lw_all := lw_g (lw_at lw_m2 220 rfl) rfl
theorem q559 : (Jvm.Cond.code ({ cls := "TunedHouses", name := "custom", desc := "()LTunedHouses$Term;" } : Jvm.MethodName) prog_1_method_1_code (0 : Nat) (Option.some (Jvm.ClassFile.FieldType.object "TunedHouses$Term"))) ∈ lw_all := lw_g (lw_at lw_m2 221 rfl) rfl
theorem q560 : (Jvm.Cond.classLink "TunedHouses" (3 : Nat) "TunedHouses$Minus") ∈ lw_all := lw_g (lw_at lw_m2 222 rfl) rfl
theorem q562 : (Jvm.Cond.classLink "TunedHouses" (5 : Nat) "TunedHouses$Fact") ∈ lw_all := lw_g (lw_at lw_m2 224 rfl) rfl
theorem q564 : (Jvm.Cond.methodLink "TunedHouses" (7 : Nat) ({ cls := "TunedHouses$Fact", name := "<init>", desc := "(I)V" } : Jvm.MethodName)) ∈ lw_all := lw_g (lw_at lw_m2 226 rfl) rfl
theorem q575 : (Jvm.Cond.methodLink "TunedHouses" (11 : Nat) ({ cls := "TunedHouses$Minus", name := "<init>", desc := "(LTunedHouses$Term;LTunedHouses$Term;)V" } : Jvm.MethodName)) ∈ lw_all := lw_g (lw_at lw_m2 237 rfl) rfl
theorem q589 : (Jvm.Cond.classLink "TunedHouses" (44 : Nat) "TunedHouses$Terrace") ∈ lw_all := lw_g (lw_at lw_m3 11 rfl) rfl
theorem q591 : (Jvm.Cond.methodLinkNest "TunedHouses" (46 : Nat) ({ cls := "TunedHouses$Terrace", name := "<init>", desc := "(LTunedHouses;)V" } : Jvm.MethodName) "TunedHouses") ∈ lw_tbl := lw_at lw_m3 13 rfl
theorem q596 : (Jvm.Cond.fieldLinkNest "TunedHouses" (239 : Nat) "TunedHouses$Terrace" "at" "[I" "TunedHouses") ∈ lw_tbl := lw_at lw_m3 18 rfl
theorem q598 : (Jvm.Cond.fieldLinkNest "TunedHouses" (317 : Nat) "TunedHouses$Terrace" "felt" "[I" "TunedHouses") ∈ lw_tbl := lw_at lw_m3 20 rfl
theorem q600 : (Jvm.Cond.fieldLinkNest "TunedHouses" (320 : Nat) "TunedHouses$Terrace" "days" "[I" "TunedHouses") ∈ lw_tbl := lw_at lw_m3 22 rfl
theorem q602 : (Jvm.Cond.fieldLinkNest "TunedHouses" (286 : Nat) "TunedHouses$Terrace" "there" "[I" "TunedHouses") ∈ lw_tbl := lw_at lw_m3 24 rfl
theorem q605 : (Jvm.Cond.fieldLinkNest "TunedHouses" (256 : Nat) "TunedHouses$Terrace" "left" "I" "TunedHouses") ∈ lw_tbl := lw_at lw_m3 27 rfl
theorem q607 : (Jvm.Cond.fieldLinkNest "TunedHouses" (253 : Nat) "TunedHouses$Terrace" "day" "I" "TunedHouses") ∈ lw_tbl := lw_at lw_m3 29 rfl
theorem q610 : (Jvm.Cond.fieldLinkNest "TunedHouses" (206 : Nat) "TunedHouses$Terrace" "steps" "I" "TunedHouses") ∈ lw_tbl := lw_at lw_m3 32 rfl
theorem q612 : (Jvm.Cond.fieldLinkNest "TunedHouses" (209 : Nat) "TunedHouses$Terrace" "done" "I" "TunedHouses") ∈ lw_tbl := lw_at lw_m3 34 rfl
theorem q614 : (Jvm.Cond.fieldLinkNest "TunedHouses" (212 : Nat) "TunedHouses$Terrace" "refused" "I" "TunedHouses") ∈ lw_tbl := lw_at lw_m3 36 rfl
theorem q640 : (Jvm.Cond.constant "TunedHouses" (83 : Nat) (54900 : Int32)) ∈ lw_all := lw_g (lw_at lw_m3 62 rfl) rfl
theorem q641 : (Jvm.Cond.methodLink "TunedHouses" (94 : Nat) ({ cls := "TunedHouses", name := "begins", desc := "()V" } : Jvm.MethodName)) ∈ lw_all := lw_g (lw_at lw_m3 63 rfl) rfl
theorem q642 : (Jvm.Cond.privateMethod ({ cls := "TunedHouses", name := "begins", desc := "()V" } : Jvm.MethodName)) ∈ lw_tbl := lw_at lw_m3 64 rfl
theorem q643 : (Jvm.Cond.instanceMethod ({ cls := "TunedHouses", name := "begins", desc := "()V" } : Jvm.MethodName)) ∈ lw_all := lw_g (lw_at lw_m3 65 rfl) rfl
theorem q644 : (Jvm.Cond.code ({ cls := "TunedHouses", name := "begins", desc := "()V" } : Jvm.MethodName) prog_1_method_3_code (2 : Nat) (Option.none : Option Jvm.ClassFile.FieldType)) ∈ lw_all := lw_g (lw_at lw_m3 66 rfl) rfl
theorem q645 : (Jvm.Cond.methodLink "TunedHouses" (97 : Nat) ({ cls := "TunedHouses$Terrace", name := "begins", desc := "()LTunedHouses$Terrace;" } : Jvm.MethodName)) ∈ lw_all := lw_g (lw_at lw_m3 67 rfl) rfl
theorem q649 : (Jvm.Cond.fieldLink "TunedHouses" (22 : Nat) "TunedHouses" "told" "LTunedHouses$Told;") ∈ lw_all := lw_g (lw_at lw_m3 71 rfl) rfl
theorem q651 : (Jvm.Cond.fieldLink "TunedHouses" (30 : Nat) "TunedHouses" "law" "LTunedHouses$Term;") ∈ lw_all := lw_g (lw_at lw_m3 73 rfl) rfl
theorem q652 : (Jvm.Cond.fieldLink "TunedHouses" (34 : Nat) "TunedHouses" "facts" "[I") ∈ lw_all := lw_g (lw_at lw_m3 74 rfl) rfl
theorem q653 : (Jvm.Cond.fieldLink "TunedHouses" (38 : Nat) "TunedHouses" "bookOf" "[I") ∈ lw_all := lw_g (lw_at lw_m3 75 rfl) rfl
theorem q654 : (Jvm.Cond.fieldLink "TunedHouses" (41 : Nat) "TunedHouses" "refused" "[I") ∈ lw_all := lw_g (lw_at lw_m3 76 rfl) rfl
theorem q655 : (Jvm.Cond.fieldLink "TunedHouses" (49 : Nat) "TunedHouses" "now" "LTunedHouses$Terrace;") ∈ lw_all := lw_g (lw_at lw_m3 77 rfl) rfl
theorem q656 : (Jvm.Cond.fieldLink "TunedHouses" (53 : Nat) "TunedHouses" "probe" "LTunedHouses$Terrace;") ∈ lw_all := lw_g (lw_at lw_m3 78 rfl) rfl
theorem q657 : (Jvm.Cond.fieldLink "TunedHouses" (56 : Nat) "TunedHouses" "past" "[LTunedHouses$Terrace;") ∈ lw_all := lw_g (lw_at lw_m3 79 rfl) rfl
theorem q658 : (Jvm.Cond.fieldLink "TunedHouses" (60 : Nat) "TunedHouses" "images" "[LTunedHouses$Terrace;") ∈ lw_all := lw_g (lw_at lw_m3 80 rfl) rfl
theorem q659 : (Jvm.Cond.fieldLink "TunedHouses" (63 : Nat) "TunedHouses" "imagePast" "[LTunedHouses$Terrace;") ∈ lw_all := lw_g (lw_at lw_m3 81 rfl) rfl
theorem q660 : (Jvm.Cond.fieldLink "TunedHouses" (66 : Nat) "TunedHouses" "imageWorks" "[I") ∈ lw_all := lw_g (lw_at lw_m3 82 rfl) rfl
theorem q661 : (Jvm.Cond.fieldLink "TunedHouses" (100 : Nat) "TunedHouses" "works" "I") ∈ lw_all := lw_g (lw_at lw_m3 83 rfl) rfl
theorem q662 : (Jvm.Cond.fieldLink "TunedHouses" (103 : Nat) "TunedHouses" "refusedSteps" "I") ∈ lw_all := lw_g (lw_at lw_m3 84 rfl) rfl
theorem q663 : (Jvm.Cond.fieldLink "TunedHouses" (106 : Nat) "TunedHouses" "lineMany" "I") ∈ lw_all := lw_g (lw_at lw_m3 85 rfl) rfl
theorem q664 : (Jvm.Cond.fieldLink "TunedHouses" (399 : Nat) "TunedHouses" "seedNow" "I") ∈ lw_all := lw_g (lw_at lw_m3 86 rfl) rfl
theorem q665 : (Jvm.Cond.fieldLink "TunedHouses" (158 : Nat) "TunedHouses" "taped" "I") ∈ lw_all := lw_g (lw_at lw_m3 87 rfl) rfl
theorem q666 : (Jvm.Cond.fieldLink "TunedHouses" (69 : Nat) "TunedHouses" "faultAt" "I") ∈ lw_all := lw_g (lw_at lw_m3 88 rfl) rfl
theorem q667 : (Jvm.Cond.fieldLink "TunedHouses" (109 : Nat) "TunedHouses" "imageMany" "I") ∈ lw_all := lw_g (lw_at lw_m3 89 rfl) rfl
theorem q668 : (Jvm.Cond.fieldLink "TunedHouses" (73 : Nat) "TunedHouses" "tape" "[B") ∈ lw_all := lw_g (lw_at lw_m3 90 rfl) rfl
theorem q669 : (Jvm.Cond.fieldLink "TunedHouses" (77 : Nat) "TunedHouses" "where" "[I") ∈ lw_all := lw_g (lw_at lw_m3 91 rfl) rfl
theorem q670 : (Jvm.Cond.fieldLink "TunedHouses" (80 : Nat) "TunedHouses" "bestWhere" "[I") ∈ lw_all := lw_g (lw_at lw_m3 92 rfl) rfl
theorem q671 : (Jvm.Cond.fieldLink "TunedHouses" (352 : Nat) "TunedHouses" "mostWishes" "I") ∈ lw_all := lw_g (lw_at lw_m3 93 rfl) rfl
theorem q672 : (Jvm.Cond.fieldLink "TunedHouses" (84 : Nat) "TunedHouses" "wouldBe" "[I") ∈ lw_all := lw_g (lw_at lw_m3 94 rfl) rfl
theorem q673 : (Jvm.Cond.fieldLink "TunedHouses" (87 : Nat) "TunedHouses" "leftBy" "[I") ∈ lw_all := lw_g (lw_at lw_m3 95 rfl) rfl
theorem q674 : (Jvm.Cond.fieldLink "TunedHouses" (90 : Nat) "TunedHouses" "fits" "[Z") ∈ lw_all := lw_g (lw_at lw_m3 96 rfl) rfl
theorem q675 : (Jvm.Cond.fieldLink "TunedHouses" (403 : Nat) "TunedHouses" "putMany" "I") ∈ lw_all := lw_g (lw_at lw_m3 97 rfl) rfl
theorem q676 : (Jvm.Cond.lays "TunedHouses" "TunedHouses" "told" "LTunedHouses$Told;") ∈ lw_all := lw_g (lw_at lw_m3 98 rfl) rfl
theorem q677 : (Jvm.Cond.soleField "TunedHouses" "told") ∈ lw_all := lw_g (lw_at lw_m3 99 rfl) rfl
theorem q678 : (Jvm.Cond.lays "TunedHouses" "TunedHouses" "law" "LTunedHouses$Term;") ∈ lw_all := lw_g (lw_at lw_m3 100 rfl) rfl
theorem q679 : (Jvm.Cond.soleField "TunedHouses" "law") ∈ lw_all := lw_g (lw_at lw_m3 101 rfl) rfl
theorem q680 : (Jvm.Cond.laysFinal "TunedHouses" "TunedHouses" "facts" "[I") ∈ lw_all := lw_g (lw_at lw_m3 102 rfl) rfl
theorem q681 : (Jvm.Cond.soleField "TunedHouses" "facts") ∈ lw_all := lw_g (lw_at lw_m3 103 rfl) rfl
theorem q682 : (Jvm.Cond.laysFinal "TunedHouses" "TunedHouses" "bookOf" "[I") ∈ lw_all := lw_g (lw_at lw_m3 104 rfl) rfl
theorem q683 : (Jvm.Cond.soleField "TunedHouses" "bookOf") ∈ lw_all := lw_g (lw_at lw_m3 105 rfl) rfl
theorem q684 : (Jvm.Cond.laysFinal "TunedHouses" "TunedHouses" "refused" "[I") ∈ lw_all := lw_g (lw_at lw_m3 106 rfl) rfl
theorem q685 : (Jvm.Cond.soleField "TunedHouses" "refused") ∈ lw_all := lw_g (lw_at lw_m3 107 rfl) rfl
theorem q686 : (Jvm.Cond.laysFinal "TunedHouses" "TunedHouses" "now" "LTunedHouses$Terrace;") ∈ lw_all := lw_g (lw_at lw_m3 108 rfl) rfl
theorem q687 : (Jvm.Cond.soleField "TunedHouses" "now") ∈ lw_all := lw_g (lw_at lw_m3 109 rfl) rfl
theorem q688 : (Jvm.Cond.laysFinal "TunedHouses" "TunedHouses" "probe" "LTunedHouses$Terrace;") ∈ lw_all := lw_g (lw_at lw_m3 110 rfl) rfl
theorem q689 : (Jvm.Cond.soleField "TunedHouses" "probe") ∈ lw_all := lw_g (lw_at lw_m3 111 rfl) rfl
theorem q690 : (Jvm.Cond.laysFinal "TunedHouses" "TunedHouses" "past" "[LTunedHouses$Terrace;") ∈ lw_all := lw_g (lw_at lw_m3 112 rfl) rfl
theorem q691 : (Jvm.Cond.soleField "TunedHouses" "past") ∈ lw_all := lw_g (lw_at lw_m3 113 rfl) rfl
theorem q692 : (Jvm.Cond.laysFinal "TunedHouses" "TunedHouses" "images" "[LTunedHouses$Terrace;") ∈ lw_all := lw_g (lw_at lw_m3 114 rfl) rfl
theorem q693 : (Jvm.Cond.soleField "TunedHouses" "images") ∈ lw_all := lw_g (lw_at lw_m3 115 rfl) rfl
theorem q694 : (Jvm.Cond.laysFinal "TunedHouses" "TunedHouses" "imagePast" "[LTunedHouses$Terrace;") ∈ lw_all := lw_g (lw_at lw_m3 116 rfl) rfl
theorem q695 : (Jvm.Cond.soleField "TunedHouses" "imagePast") ∈ lw_all := lw_g (lw_at lw_m3 117 rfl) rfl
theorem q696 : (Jvm.Cond.laysFinal "TunedHouses" "TunedHouses" "imageWorks" "[I") ∈ lw_all := lw_g (lw_at lw_m3 118 rfl) rfl
theorem q697 : (Jvm.Cond.soleField "TunedHouses" "imageWorks") ∈ lw_all := lw_g (lw_at lw_m3 119 rfl) rfl
theorem q698 : (Jvm.Cond.lays "TunedHouses" "TunedHouses" "works" "I") ∈ lw_all := lw_g (lw_at lw_m3 120 rfl) rfl
theorem q699 : (Jvm.Cond.soleField "TunedHouses" "works") ∈ lw_all := lw_g (lw_at lw_m3 121 rfl) rfl
theorem q700 : (Jvm.Cond.lays "TunedHouses" "TunedHouses" "refusedSteps" "I") ∈ lw_all := lw_g (lw_at lw_m3 122 rfl) rfl
theorem q701 : (Jvm.Cond.soleField "TunedHouses" "refusedSteps") ∈ lw_all := lw_g (lw_at lw_m3 123 rfl) rfl
theorem q702 : (Jvm.Cond.lays "TunedHouses" "TunedHouses" "lineMany" "I") ∈ lw_all := lw_g (lw_at lw_m3 124 rfl) rfl
theorem q703 : (Jvm.Cond.soleField "TunedHouses" "lineMany") ∈ lw_all := lw_g (lw_at lw_m3 125 rfl) rfl
theorem q704 : (Jvm.Cond.lays "TunedHouses" "TunedHouses" "seedNow" "I") ∈ lw_all := lw_g (lw_at lw_m3 126 rfl) rfl
theorem q705 : (Jvm.Cond.soleField "TunedHouses" "seedNow") ∈ lw_all := lw_g (lw_at lw_m3 127 rfl) rfl
theorem q706 : (Jvm.Cond.lays "TunedHouses" "TunedHouses" "taped" "I") ∈ lw_all := lw_g (lw_at lw_m3 128 rfl) rfl
theorem q707 : (Jvm.Cond.soleField "TunedHouses" "taped") ∈ lw_all := lw_g (lw_at lw_m3 129 rfl) rfl
theorem q708 : (Jvm.Cond.lays "TunedHouses" "TunedHouses" "faultAt" "I") ∈ lw_all := lw_g (lw_at lw_m3 130 rfl) rfl
theorem q709 : (Jvm.Cond.soleField "TunedHouses" "faultAt") ∈ lw_all := lw_g (lw_at lw_m3 131 rfl) rfl
theorem q710 : (Jvm.Cond.lays "TunedHouses" "TunedHouses" "imageMany" "I") ∈ lw_all := lw_g (lw_at lw_m3 132 rfl) rfl
theorem q711 : (Jvm.Cond.soleField "TunedHouses" "imageMany") ∈ lw_all := lw_g (lw_at lw_m3 133 rfl) rfl
theorem q712 : (Jvm.Cond.laysFinal "TunedHouses" "TunedHouses" "tape" "[B") ∈ lw_all := lw_g (lw_at lw_m3 134 rfl) rfl
theorem q713 : (Jvm.Cond.soleField "TunedHouses" "tape") ∈ lw_all := lw_g (lw_at lw_m3 135 rfl) rfl
theorem q714 : (Jvm.Cond.laysFinal "TunedHouses" "TunedHouses" "where" "[I") ∈ lw_all := lw_g (lw_at lw_m3 136 rfl) rfl
theorem q715 : (Jvm.Cond.soleField "TunedHouses" "where") ∈ lw_all := lw_g (lw_at lw_m3 137 rfl) rfl
theorem q716 : (Jvm.Cond.laysFinal "TunedHouses" "TunedHouses" "bestWhere" "[I") ∈ lw_all := lw_g (lw_at lw_m3 138 rfl) rfl
theorem q717 : (Jvm.Cond.soleField "TunedHouses" "bestWhere") ∈ lw_all := lw_g (lw_at lw_m3 139 rfl) rfl
theorem q718 : (Jvm.Cond.lays "TunedHouses" "TunedHouses" "mostWishes" "I") ∈ lw_all := lw_g (lw_at lw_m3 140 rfl) rfl
theorem q719 : (Jvm.Cond.soleField "TunedHouses" "mostWishes") ∈ lw_all := lw_g (lw_at lw_m3 141 rfl) rfl
theorem q720 : (Jvm.Cond.laysFinal "TunedHouses" "TunedHouses" "wouldBe" "[I") ∈ lw_all := lw_g (lw_at lw_m3 142 rfl) rfl
theorem q721 : (Jvm.Cond.soleField "TunedHouses" "wouldBe") ∈ lw_all := lw_g (lw_at lw_m3 143 rfl) rfl
theorem q722 : (Jvm.Cond.laysFinal "TunedHouses" "TunedHouses" "leftBy" "[I") ∈ lw_all := lw_g (lw_at lw_m3 144 rfl) rfl
theorem q723 : (Jvm.Cond.soleField "TunedHouses" "leftBy") ∈ lw_all := lw_g (lw_at lw_m3 145 rfl) rfl
theorem q724 : (Jvm.Cond.laysFinal "TunedHouses" "TunedHouses" "fits" "[Z") ∈ lw_all := lw_g (lw_at lw_m3 146 rfl) rfl
theorem q725 : (Jvm.Cond.soleField "TunedHouses" "fits") ∈ lw_all := lw_g (lw_at lw_m3 147 rfl) rfl
theorem q726 : (Jvm.Cond.lays "TunedHouses" "TunedHouses" "putMany" "I") ∈ lw_all := lw_g (lw_at lw_m3 148 rfl) rfl
theorem q727 : (Jvm.Cond.soleField "TunedHouses" "putMany") ∈ lw_all := lw_g (lw_at lw_m3 149 rfl) rfl
theorem q728 : (Jvm.Cond.superclass "TunedHouses" "java/lang/Object") ∈ lw_all := lw_g (lw_at lw_m3 150 rfl) rfl
theorem q731 : (Jvm.Cond.instanceMethod ({ cls := "TunedHouses", name := "feed", desc := "(IIIII)I" } : Jvm.MethodName)) ∈ lw_all := lw_g (lw_at lw_m3 153 rfl) rfl
theorem q732 : (Jvm.Cond.selects "TunedHouses" ({ cls := "TunedHouses", name := "feed", desc := "(IIIII)I" } : Jvm.MethodName) ({ cls := "TunedHouses", name := "feed", desc := "(IIIII)I" } : Jvm.MethodName)) ∈ lw_all := lw_g (lw_at lw_m3 154 rfl) rfl
theorem q733 : (Jvm.Cond.code ({ cls := "TunedHouses", name := "feed", desc := "(IIIII)I" } : Jvm.MethodName) prog_1_method_15_code (6 : Nat) (Option.some Jvm.ClassFile.FieldType.int)) ∈ lw_all := lw_g (lw_at lw_m3 155 rfl) rfl
theorem q734 : (Jvm.Cond.methodLink "TunedHouses" (161 : Nat) ({ cls := "TunedHouses", name := "put", desc := "(I)V" } : Jvm.MethodName)) ∈ lw_all := lw_g (lw_at lw_m3 156 rfl) rfl
theorem q735 : (Jvm.Cond.privateMethod ({ cls := "TunedHouses", name := "put", desc := "(I)V" } : Jvm.MethodName)) ∈ lw_tbl := lw_at lw_m3 157 rfl
theorem q736 : (Jvm.Cond.instanceMethod ({ cls := "TunedHouses", name := "put", desc := "(I)V" } : Jvm.MethodName)) ∈ lw_all := lw_g (lw_at lw_m3 158 rfl) rfl
theorem q737 : (Jvm.Cond.code ({ cls := "TunedHouses", name := "put", desc := "(I)V" } : Jvm.MethodName) prog_1_method_16_code (3 : Nat) (Option.none : Option Jvm.ClassFile.FieldType)) ∈ lw_all := lw_g (lw_at lw_m3 159 rfl) rfl
theorem q739 : (Jvm.Cond.instanceMethod ({ cls := "TunedHouses", name := "fault", desc := "()I" } : Jvm.MethodName)) ∈ lw_all := lw_g (lw_at lw_m3 161 rfl) rfl
theorem q740 : (Jvm.Cond.selects "TunedHouses" ({ cls := "TunedHouses", name := "fault", desc := "()I" } : Jvm.MethodName) ({ cls := "TunedHouses", name := "fault", desc := "()I" } : Jvm.MethodName)) ∈ lw_all := lw_g (lw_at lw_m3 162 rfl) rfl
theorem q741 : (Jvm.Cond.code ({ cls := "TunedHouses", name := "fault", desc := "()I" } : Jvm.MethodName) prog_1_method_22_code (1 : Nat) (Option.some Jvm.ClassFile.FieldType.int)) ∈ lw_all := lw_g (lw_at lw_m3 163 rfl) rfl
theorem q743 : (Jvm.Cond.instanceMethod ({ cls := "TunedHouses", name := "undo", desc := "()I" } : Jvm.MethodName)) ∈ lw_all := lw_g (lw_at lw_m3 165 rfl) rfl
theorem q744 : (Jvm.Cond.selects "TunedHouses" ({ cls := "TunedHouses", name := "undo", desc := "()I" } : Jvm.MethodName) ({ cls := "TunedHouses", name := "undo", desc := "()I" } : Jvm.MethodName)) ∈ lw_all := lw_g (lw_at lw_m3 166 rfl) rfl
theorem q745 : (Jvm.Cond.code ({ cls := "TunedHouses", name := "undo", desc := "()I" } : Jvm.MethodName) prog_1_method_23_code (1 : Nat) (Option.some Jvm.ClassFile.FieldType.int)) ∈ lw_all := lw_g (lw_at lw_m3 167 rfl) rfl
theorem q746 : (Jvm.Cond.methodLink "TunedHouses" (235 : Nat) ({ cls := "TunedHouses$Terrace", name := "becomes", desc := "(LTunedHouses$Terrace;)LTunedHouses$Terrace;" } : Jvm.MethodName)) ∈ lw_all := lw_g (lw_at lw_m3 168 rfl) rfl
theorem q752 : (Jvm.Cond.instanceMethod ({ cls := "TunedHouses", name := "changed", desc := "()I" } : Jvm.MethodName)) ∈ lw_all := lw_g (lw_at lw_m3 174 rfl) rfl
theorem q753 : (Jvm.Cond.selects "TunedHouses" ({ cls := "TunedHouses", name := "changed", desc := "()I" } : Jvm.MethodName) ({ cls := "TunedHouses", name := "changed", desc := "()I" } : Jvm.MethodName)) ∈ lw_all := lw_g (lw_at lw_m3 175 rfl) rfl
theorem q754 : (Jvm.Cond.code ({ cls := "TunedHouses", name := "changed", desc := "()I" } : Jvm.MethodName) prog_1_method_38_code (1 : Nat) (Option.some Jvm.ClassFile.FieldType.int)) ∈ lw_all := lw_g (lw_at lw_m3 176 rfl) rfl
theorem q755 : (Jvm.Cond.methodLink "TunedHouses" (342 : Nat) ({ cls := "TunedHouses$Terrace", name := "changed", desc := "()I" } : Jvm.MethodName)) ∈ lw_all := lw_g (lw_at lw_m3 177 rfl) rfl
theorem q768 : (Jvm.Cond.instanceMethod ({ cls := "TunedHouses", name := "empty", desc := "()I" } : Jvm.MethodName)) ∈ lw_all := lw_g (lw_at lw_m3 190 rfl) rfl
theorem q769 : (Jvm.Cond.selects "TunedHouses" ({ cls := "TunedHouses", name := "empty", desc := "()I" } : Jvm.MethodName) ({ cls := "TunedHouses", name := "empty", desc := "()I" } : Jvm.MethodName)) ∈ lw_all := lw_g (lw_at lw_m3 191 rfl) rfl
theorem q770 : (Jvm.Cond.code ({ cls := "TunedHouses", name := "empty", desc := "()I" } : Jvm.MethodName) prog_1_method_40_code (3 : Nat) (Option.some Jvm.ClassFile.FieldType.int)) ∈ lw_all := lw_g (lw_at lw_m3 192 rfl) rfl
theorem q771 : (Jvm.Cond.methodLink "TunedHouses" (280 : Nat) ({ cls := "TunedHouses$Terrace", name := "in", desc := "(I)I" } : Jvm.MethodName)) ∈ lw_all := lw_g (lw_at lw_m3 193 rfl) rfl
theorem q776 : (Jvm.Cond.privateMethod ({ cls := "TunedHouses", name := "pianos", desc := "()I" } : Jvm.MethodName)) ∈ lw_tbl := lw_at lw_m3 198 rfl
theorem q777 : (Jvm.Cond.instanceMethod ({ cls := "TunedHouses", name := "pianos", desc := "()I" } : Jvm.MethodName)) ∈ lw_all := lw_g (lw_at lw_m3 199 rfl) rfl
theorem q778 : (Jvm.Cond.code ({ cls := "TunedHouses", name := "pianos", desc := "()I" } : Jvm.MethodName) prog_1_method_4_code (1 : Nat) (Option.some Jvm.ClassFile.FieldType.int)) ∈ lw_all := lw_g (lw_at lw_m3 200 rfl) rfl
theorem q779 : (Jvm.Cond.methodLink "TunedHouses" (116 : Nat) ({ cls := "java/util/ArrayList", name := "size", desc := "()I" } : Jvm.MethodName)) ∈ lw_all := lw_g (lw_at lw_m3 201 rfl) rfl
theorem q784 : (Jvm.Cond.instanceMethod ({ cls := "TunedHouses", name := "places", desc := "()I" } : Jvm.MethodName)) ∈ lw_all := lw_g (lw_at lw_m3 206 rfl) rfl
theorem q785 : (Jvm.Cond.selects "TunedHouses" ({ cls := "TunedHouses", name := "places", desc := "()I" } : Jvm.MethodName) ({ cls := "TunedHouses", name := "places", desc := "()I" } : Jvm.MethodName)) ∈ lw_all := lw_g (lw_at lw_m3 207 rfl) rfl
theorem q786 : (Jvm.Cond.code ({ cls := "TunedHouses", name := "places", desc := "()I" } : Jvm.MethodName) prog_1_method_46_code (1 : Nat) (Option.some Jvm.ClassFile.FieldType.int)) ∈ lw_all := lw_g (lw_at lw_m3 208 rfl) rfl
theorem q787 : (Jvm.Cond.methodLink "TunedHouses" (361 : Nat) ({ cls := "TunedHouses", name := "findPlaces", desc := "()V" } : Jvm.MethodName)) ∈ lw_all := lw_g (lw_at lw_m3 209 rfl) rfl
theorem q788 : (Jvm.Cond.privateMethod ({ cls := "TunedHouses", name := "findPlaces", desc := "()V" } : Jvm.MethodName)) ∈ lw_tbl := lw_at lw_m3 210 rfl
theorem q789 : (Jvm.Cond.instanceMethod ({ cls := "TunedHouses", name := "findPlaces", desc := "()V" } : Jvm.MethodName)) ∈ lw_all := lw_g (lw_at lw_m3 211 rfl) rfl
theorem q790 : (Jvm.Cond.code ({ cls := "TunedHouses", name := "findPlaces", desc := "()V" } : Jvm.MethodName) prog_1_method_45_code (2 : Nat) (Option.none : Option Jvm.ClassFile.FieldType)) ∈ lw_all := lw_g (lw_at lw_m3 212 rfl) rfl
theorem q791 : (Jvm.Cond.methodLink "TunedHouses" (358 : Nat) ({ cls := "TunedHouses", name := "placesOn", desc := "(II)V" } : Jvm.MethodName)) ∈ lw_all := lw_g (lw_at lw_m3 213 rfl) rfl
theorem q792 : (Jvm.Cond.privateMethod ({ cls := "TunedHouses", name := "placesOn", desc := "(II)V" } : Jvm.MethodName)) ∈ lw_tbl := lw_at lw_m3 214 rfl
theorem q793 : (Jvm.Cond.instanceMethod ({ cls := "TunedHouses", name := "placesOn", desc := "(II)V" } : Jvm.MethodName)) ∈ lw_all := lw_g (lw_at lw_m3 215 rfl) rfl
theorem q794 : (Jvm.Cond.code ({ cls := "TunedHouses", name := "placesOn", desc := "(II)V" } : Jvm.MethodName) prog_1_method_44_code (4 : Nat) (Option.none : Option Jvm.ClassFile.FieldType)) ∈ lw_all := lw_g (lw_at lw_m3 216 rfl) rfl
theorem q795 : (Jvm.Cond.methodLink "TunedHouses" (156 : Nat) ({ cls := "TunedHouses", name := "pianos", desc := "()I" } : Jvm.MethodName)) ∈ lw_all := lw_g (lw_at lw_m3 217 rfl) rfl
theorem q796 : (Jvm.Cond.methodLink "TunedHouses" (226 : Nat) ({ cls := "java/lang/System", name := "arraycopy", desc := "(Ljava/lang/Object;ILjava/lang/Object;II)V" } : Jvm.MethodName)) ∈ lw_all := lw_g (lw_at lw_m3 218 rfl) rfl
theorem q797 : (Jvm.Cond.methodLink "TunedHouses" (355 : Nat) ({ cls := "TunedHouses", name := "isPeace", desc := "(II)Z" } : Jvm.MethodName)) ∈ lw_all := lw_g (lw_at lw_m3 219 rfl) rfl
theorem q798 : (Jvm.Cond.privateMethod ({ cls := "TunedHouses", name := "isPeace", desc := "(II)Z" } : Jvm.MethodName)) ∈ lw_tbl := lw_at lw_m3 220 rfl
theorem q799 : (Jvm.Cond.instanceMethod ({ cls := "TunedHouses", name := "isPeace", desc := "(II)Z" } : Jvm.MethodName)) ∈ lw_all := lw_g (lw_at lw_m3 221 rfl) rfl
theorem q800 : (Jvm.Cond.code ({ cls := "TunedHouses", name := "isPeace", desc := "(II)Z" } : Jvm.MethodName) prog_1_method_43_code (4 : Nat) (Option.some Jvm.ClassFile.FieldType.boolean)) ∈ lw_all := lw_g (lw_at lw_m3 222 rfl) rfl
theorem q801 : (Jvm.Cond.methodLink "TunedHouses" (349 : Nat) ({ cls := "TunedHouses", name := "has", desc := "(II)Z" } : Jvm.MethodName)) ∈ lw_all := lw_g (lw_at lw_m3 223 rfl) rfl
theorem q802 : (Jvm.Cond.static ({ cls := "TunedHouses", name := "has", desc := "(II)Z" } : Jvm.MethodName)) ∈ lw_all := lw_g (lw_at lw_m3 224 rfl) rfl
theorem q803 : (Jvm.Cond.code ({ cls := "TunedHouses", name := "has", desc := "(II)Z" } : Jvm.MethodName) prog_1_method_14_code (2 : Nat) (Option.some Jvm.ClassFile.FieldType.boolean)) ∈ lw_all := lw_g (lw_at lw_m3 225 rfl) rfl
theorem q804 : (Jvm.Cond.methodLink "TunedHouses" (308 : Nat) ({ cls := "TunedHouses", name := "pianoOf", desc := "(I)LTunedHouses$Piano;" } : Jvm.MethodName)) ∈ lw_all := lw_g (lw_at lw_m3 226 rfl) rfl
theorem q805 : (Jvm.Cond.privateMethod ({ cls := "TunedHouses", name := "pianoOf", desc := "(I)LTunedHouses$Piano;" } : Jvm.MethodName)) ∈ lw_tbl := lw_at lw_m3 227 rfl
theorem q806 : (Jvm.Cond.instanceMethod ({ cls := "TunedHouses", name := "pianoOf", desc := "(I)LTunedHouses$Piano;" } : Jvm.MethodName)) ∈ lw_all := lw_g (lw_at lw_m3 228 rfl) rfl
theorem q807 : (Jvm.Cond.code ({ cls := "TunedHouses", name := "pianoOf", desc := "(I)LTunedHouses$Piano;" } : Jvm.MethodName) prog_1_method_5_code (2 : Nat) (Option.some (Jvm.ClassFile.FieldType.object "TunedHouses$Piano"))) ∈ lw_all := lw_g (lw_at lw_m3 229 rfl) rfl
theorem q808 : (Jvm.Cond.methodLink "TunedHouses" (122 : Nat) ({ cls := "java/util/ArrayList", name := "get", desc := "(I)Ljava/lang/Object;" } : Jvm.MethodName)) ∈ lw_all := lw_g (lw_at lw_m3 230 rfl) rfl
theorem q822 : (Jvm.Cond.classLink "TunedHouses" (126 : Nat) "TunedHouses$Piano") ∈ lw_all := lw_g (lw_at lw_m4 4 rfl) rfl
theorem q824 : (Jvm.Cond.instanceMethod ({ cls := "TunedHouses", name := "alone", desc := "()I" } : Jvm.MethodName)) ∈ lw_all := lw_g (lw_at lw_m4 6 rfl) rfl
theorem q825 : (Jvm.Cond.selects "TunedHouses" ({ cls := "TunedHouses", name := "alone", desc := "()I" } : Jvm.MethodName) ({ cls := "TunedHouses", name := "alone", desc := "()I" } : Jvm.MethodName)) ∈ lw_all := lw_g (lw_at lw_m4 7 rfl) rfl
theorem q826 : (Jvm.Cond.code ({ cls := "TunedHouses", name := "alone", desc := "()I" } : Jvm.MethodName) prog_1_method_55_code (3 : Nat) (Option.some Jvm.ClassFile.FieldType.int)) ∈ lw_all := lw_g (lw_at lw_m4 8 rfl) rfl
theorem q827 : (Jvm.Cond.methodLink "TunedHouses" (373 : Nat) ({ cls := "java/lang/Integer", name := "bitCount", desc := "(I)I" } : Jvm.MethodName)) ∈ lw_all := lw_g (lw_at lw_m4 9 rfl) rfl
theorem q833 : (Jvm.Cond.methodLink "TunedHouses" (378 : Nat) ({ cls := "TunedHouses", name := "isAlone", desc := "(I)Z" } : Jvm.MethodName)) ∈ lw_all := lw_g (lw_at lw_m4 15 rfl) rfl
theorem q834 : (Jvm.Cond.privateMethod ({ cls := "TunedHouses", name := "isAlone", desc := "(I)Z" } : Jvm.MethodName)) ∈ lw_tbl := lw_at lw_m4 16 rfl
theorem q835 : (Jvm.Cond.instanceMethod ({ cls := "TunedHouses", name := "isAlone", desc := "(I)Z" } : Jvm.MethodName)) ∈ lw_all := lw_g (lw_at lw_m4 17 rfl) rfl
theorem q836 : (Jvm.Cond.code ({ cls := "TunedHouses", name := "isAlone", desc := "(I)Z" } : Jvm.MethodName) prog_1_method_54_code (3 : Nat) (Option.some Jvm.ClassFile.FieldType.boolean)) ∈ lw_all := lw_g (lw_at lw_m4 18 rfl) rfl
theorem q838 : (Jvm.Cond.instanceMethod ({ cls := "TunedHouses", name := "image", desc := "()I" } : Jvm.MethodName)) ∈ lw_all := lw_g (lw_at lw_m4 20 rfl) rfl
theorem q839 : (Jvm.Cond.selects "TunedHouses" ({ cls := "TunedHouses", name := "image", desc := "()I" } : Jvm.MethodName) ({ cls := "TunedHouses", name := "image", desc := "()I" } : Jvm.MethodName)) ∈ lw_all := lw_g (lw_at lw_m4 21 rfl) rfl
theorem q840 : (Jvm.Cond.code ({ cls := "TunedHouses", name := "image", desc := "()I" } : Jvm.MethodName) prog_1_method_69_code (2 : Nat) (Option.some Jvm.ClassFile.FieldType.int)) ∈ lw_all := lw_g (lw_at lw_m4 22 rfl) rfl
theorem q841 : (Jvm.Cond.methodLink "TunedHouses" (202 : Nat) ({ cls := "TunedHouses", name := "kept", desc := "([LTunedHouses$Terrace;ILTunedHouses$Terrace;)V" } : Jvm.MethodName)) ∈ lw_all := lw_g (lw_at lw_m4 23 rfl) rfl
theorem q842 : (Jvm.Cond.privateMethod ({ cls := "TunedHouses", name := "kept", desc := "([LTunedHouses$Terrace;ILTunedHouses$Terrace;)V" } : Jvm.MethodName)) ∈ lw_tbl := lw_at lw_m4 24 rfl
theorem q843 : (Jvm.Cond.instanceMethod ({ cls := "TunedHouses", name := "kept", desc := "([LTunedHouses$Terrace;ILTunedHouses$Terrace;)V" } : Jvm.MethodName)) ∈ lw_all := lw_g (lw_at lw_m4 25 rfl) rfl
theorem q844 : (Jvm.Cond.code ({ cls := "TunedHouses", name := "kept", desc := "([LTunedHouses$Terrace;ILTunedHouses$Terrace;)V" } : Jvm.MethodName) prog_1_method_68_code (4 : Nat) (Option.none : Option Jvm.ClassFile.FieldType)) ∈ lw_all := lw_g (lw_at lw_m4 26 rfl) rfl
theorem q846 : (Jvm.Cond.instanceMethod ({ cls := "TunedHouses", name := "restore", desc := "()I" } : Jvm.MethodName)) ∈ lw_all := lw_g (lw_at lw_m4 28 rfl) rfl
theorem q847 : (Jvm.Cond.selects "TunedHouses" ({ cls := "TunedHouses", name := "restore", desc := "()I" } : Jvm.MethodName) ({ cls := "TunedHouses", name := "restore", desc := "()I" } : Jvm.MethodName)) ∈ lw_all := lw_g (lw_at lw_m4 29 rfl) rfl
theorem q848 : (Jvm.Cond.code ({ cls := "TunedHouses", name := "restore", desc := "()I" } : Jvm.MethodName) prog_1_method_70_code (2 : Nat) (Option.some Jvm.ClassFile.FieldType.int)) ∈ lw_all := lw_g (lw_at lw_m4 30 rfl) rfl
theorem q850 : (Jvm.Cond.instanceMethod ({ cls := "TunedHouses", name := "status", desc := "(I)I" } : Jvm.MethodName)) ∈ lw_all := lw_g (lw_at lw_m4 32 rfl) rfl
theorem q851 : (Jvm.Cond.selects "TunedHouses" ({ cls := "TunedHouses", name := "status", desc := "(I)I" } : Jvm.MethodName) ({ cls := "TunedHouses", name := "status", desc := "(I)I" } : Jvm.MethodName)) ∈ lw_all := lw_g (lw_at lw_m4 33 rfl) rfl
theorem q852 : (Jvm.Cond.code ({ cls := "TunedHouses", name := "status", desc := "(I)I" } : Jvm.MethodName) prog_1_method_71_code (2 : Nat) (Option.some Jvm.ClassFile.FieldType.int)) ∈ lw_all := lw_g (lw_at lw_m4 34 rfl) rfl
theorem q853 : (Jvm.Cond.methodLink "TunedHouses" (296 : Nat) ({ cls := "TunedHouses", name := "isPart", desc := "(I)Z" } : Jvm.MethodName)) ∈ lw_all := lw_g (lw_at lw_m4 35 rfl) rfl
theorem q854 : (Jvm.Cond.static ({ cls := "TunedHouses", name := "isPart", desc := "(I)Z" } : Jvm.MethodName)) ∈ lw_all := lw_g (lw_at lw_m4 36 rfl) rfl
theorem q855 : (Jvm.Cond.code ({ cls := "TunedHouses", name := "isPart", desc := "(I)Z" } : Jvm.MethodName) prog_1_method_11_code (1 : Nat) (Option.some Jvm.ClassFile.FieldType.boolean)) ∈ lw_all := lw_g (lw_at lw_m4 37 rfl) rfl
theorem q857 : (Jvm.Cond.instanceMethod ({ cls := "TunedHouses", name := "count", desc := "(I)I" } : Jvm.MethodName)) ∈ lw_all := lw_g (lw_at lw_m4 39 rfl) rfl
theorem q858 : (Jvm.Cond.selects "TunedHouses" ({ cls := "TunedHouses", name := "count", desc := "(I)I" } : Jvm.MethodName) ({ cls := "TunedHouses", name := "count", desc := "(I)I" } : Jvm.MethodName)) ∈ lw_all := lw_g (lw_at lw_m4 40 rfl) rfl
theorem q859 : (Jvm.Cond.code ({ cls := "TunedHouses", name := "count", desc := "(I)I" } : Jvm.MethodName) prog_1_method_72_code (2 : Nat) (Option.some Jvm.ClassFile.FieldType.int)) ∈ lw_all := lw_g (lw_at lw_m4 41 rfl) rfl
theorem q865 : (Jvm.Cond.instanceMethod ({ cls := "TunedHouses", name := "terrace", desc := "(I)I" } : Jvm.MethodName)) ∈ lw_all := lw_g (lw_at lw_m4 47 rfl) rfl
theorem q866 : (Jvm.Cond.selects "TunedHouses" ({ cls := "TunedHouses", name := "terrace", desc := "(I)I" } : Jvm.MethodName) ({ cls := "TunedHouses", name := "terrace", desc := "(I)I" } : Jvm.MethodName)) ∈ lw_all := lw_g (lw_at lw_m4 48 rfl) rfl
theorem q867 : (Jvm.Cond.codeWith ({ cls := "TunedHouses", name := "terrace", desc := "(I)I" } : Jvm.MethodName) prog_1_method_18_code (5 : Nat) (Option.some Jvm.ClassFile.FieldType.int) [((21 : Nat), (54 : Nat), (61 : Nat), (165 : Nat)), ((21 : Nat), (54 : Nat), (75 : Nat), (0 : Nat)), ((61 : Nat), (68 : Nat), (75 : Nat), (0 : Nat)), ((75 : Nat), (77 : Nat), (75 : Nat), (0 : Nat))]) ∈ lw_all := lw_g (lw_at lw_m4 49 rfl) rfl
theorem q868 : (Jvm.Cond.classLink "TunedHouses" (165 : Nat) "TunedHouses$Wrong") ∈ lw_all := lw_g (lw_at lw_m4 50 rfl) rfl
theorem q869 : (Jvm.Cond.methodLink "TunedHouses" (172 : Nat) ({ cls := "TunedHouses", name := "need", desc := "(Z)V" } : Jvm.MethodName)) ∈ lw_all := lw_g (lw_at lw_m4 51 rfl) rfl
theorem q870 : (Jvm.Cond.privateMethod ({ cls := "TunedHouses", name := "need", desc := "(Z)V" } : Jvm.MethodName)) ∈ lw_tbl := lw_at lw_m4 52 rfl
theorem q871 : (Jvm.Cond.instanceMethod ({ cls := "TunedHouses", name := "need", desc := "(Z)V" } : Jvm.MethodName)) ∈ lw_all := lw_g (lw_at lw_m4 53 rfl) rfl
theorem q872 : (Jvm.Cond.code ({ cls := "TunedHouses", name := "need", desc := "(Z)V" } : Jvm.MethodName) prog_1_method_7_code (2 : Nat) (Option.none : Option Jvm.ClassFile.FieldType)) ∈ lw_all := lw_g (lw_at lw_m4 54 rfl) rfl
theorem q873 : (Jvm.Cond.classLink "TunedHouses" (143 : Nat) "java/lang/IllegalArgumentException") ∈ lw_all := lw_g (lw_at lw_m4 55 rfl) rfl
theorem q874 : (Jvm.Cond.methodLink "TunedHouses" (145 : Nat) ({ cls := "java/lang/IllegalArgumentException", name := "<init>", desc := "()V" } : Jvm.MethodName)) ∈ lw_all := lw_g (lw_at lw_m4 56 rfl) rfl
theorem q884 : (Jvm.Cond.classLink "TunedHouses" (176 : Nat) "TunedHouses$TerraceReader") ∈ lw_all := lw_g (lw_at lw_m4 66 rfl) rfl
theorem q886 : (Jvm.Cond.methodLink "TunedHouses" (178 : Nat) ({ cls := "TunedHouses$TerraceReader", name := "<init>", desc := "([BI)V" } : Jvm.MethodName)) ∈ lw_all := lw_g (lw_at lw_m4 68 rfl) rfl
theorem q938 : (Jvm.Cond.methodLink "TunedHouses" (181 : Nat) ({ cls := "TunedHouses$TerraceReader", name := "reads", desc := "()LTunedHouses$Told;" } : Jvm.MethodName)) ∈ lw_all := lw_g (lw_at lw_m4 120 rfl) rfl
theorem q1082 : (Jvm.Cond.fieldLinkNest "TunedHouses" (169 : Nat) "TunedHouses$Wrong" "kind" "I" "TunedHouses") ∈ lw_tbl := lw_at lw_m5 24 rfl
theorem q1084 : (Jvm.Cond.fieldLinkNest "TunedHouses" (164 : Nat) "TunedHouses$Wrong" "place" "I" "TunedHouses") ∈ lw_tbl := lw_at lw_m5 26 rfl
theorem q1128 : (Jvm.Cond.fieldLinkNest "TunedHouses" (312 : Nat) "TunedHouses$Piano" "thing" "I" "TunedHouses") ∈ lw_tbl := lw_at lw_m5 70 rfl
theorem q1131 : (Jvm.Cond.fieldLinkNest "TunedHouses" (314 : Nat) "TunedHouses$Piano" "strong" "I" "TunedHouses") ∈ lw_tbl := lw_at lw_m5 73 rfl
theorem q1162 : (Jvm.Cond.selects "TunedHouses" ({ cls := "java/lang/Object", name := "getClass", desc := "()Ljava/lang/Class;" } : Jvm.MethodName) ({ cls := "java/lang/Object", name := "getClass", desc := "()Ljava/lang/Class;" } : Jvm.MethodName)) ∈ lw_all := lw_g (lw_at lw_m5 104 rfl) rfl
theorem q1205 : (Jvm.Cond.methodLink "TunedHouses" (185 : Nat) ({ cls := "TunedHouses", name := "failed", desc := "(LTunedHouses$Wrong;)I" } : Jvm.MethodName)) ∈ lw_all := lw_g (lw_at lw_m5 147 rfl) rfl
theorem q1206 : (Jvm.Cond.privateMethod ({ cls := "TunedHouses", name := "failed", desc := "(LTunedHouses$Wrong;)I" } : Jvm.MethodName)) ∈ lw_tbl := lw_at lw_m5 148 rfl
theorem q1207 : (Jvm.Cond.instanceMethod ({ cls := "TunedHouses", name := "failed", desc := "(LTunedHouses$Wrong;)I" } : Jvm.MethodName)) ∈ lw_all := lw_g (lw_at lw_m5 149 rfl) rfl
theorem q1208 : (Jvm.Cond.code ({ cls := "TunedHouses", name := "failed", desc := "(LTunedHouses$Wrong;)I" } : Jvm.MethodName) prog_1_method_17_code (2 : Nat) (Option.some Jvm.ClassFile.FieldType.int)) ∈ lw_all := lw_g (lw_at lw_m5 150 rfl) rfl
theorem q1213 : (Jvm.Cond.instanceMethod ({ cls := "TunedHouses", name := "law", desc := "(I)I" } : Jvm.MethodName)) ∈ lw_all := lw_g (lw_at lw_m5 155 rfl) rfl
theorem q1214 : (Jvm.Cond.selects "TunedHouses" ({ cls := "TunedHouses", name := "law", desc := "(I)I" } : Jvm.MethodName) ({ cls := "TunedHouses", name := "law", desc := "(I)I" } : Jvm.MethodName)) ∈ lw_all := lw_g (lw_at lw_m5 156 rfl) rfl
theorem q1215 : (Jvm.Cond.codeWith ({ cls := "TunedHouses", name := "law", desc := "(I)I" } : Jvm.MethodName) prog_1_method_19_code (5 : Nat) (Option.some Jvm.ClassFile.FieldType.int) [((28 : Nat), (54 : Nat), (61 : Nat), (165 : Nat)), ((28 : Nat), (54 : Nat), (75 : Nat), (0 : Nat)), ((61 : Nat), (68 : Nat), (75 : Nat), (0 : Nat)), ((75 : Nat), (77 : Nat), (75 : Nat), (0 : Nat))]) ∈ lw_all := lw_g (lw_at lw_m5 157 rfl) rfl
theorem q1216 : (Jvm.Cond.classLink "TunedHouses" (189 : Nat) "TunedHouses$LawReader") ∈ lw_all := lw_g (lw_at lw_m5 158 rfl) rfl
theorem q1218 : (Jvm.Cond.methodLink "TunedHouses" (191 : Nat) ({ cls := "TunedHouses$LawReader", name := "<init>", desc := "([BI)V" } : Jvm.MethodName)) ∈ lw_all := lw_g (lw_at lw_m5 160 rfl) rfl
theorem q1228 : (Jvm.Cond.methodLink "TunedHouses" (192 : Nat) ({ cls := "TunedHouses$LawReader", name := "reads", desc := "()LTunedHouses$Term;" } : Jvm.MethodName)) ∈ lw_all := lw_g (lw_at lw_m5 170 rfl) rfl
theorem q1358 : (Jvm.Cond.instanceMethod ({ cls := "TunedHouses", name := "work", desc := "(I)I" } : Jvm.MethodName)) ∈ lw_all := lw_g (lw_at lw_m6 60 rfl) rfl
theorem q1359 : (Jvm.Cond.selects "TunedHouses" ({ cls := "TunedHouses", name := "work", desc := "(I)I" } : Jvm.MethodName) ({ cls := "TunedHouses", name := "work", desc := "(I)I" } : Jvm.MethodName)) ∈ lw_all := lw_g (lw_at lw_m6 61 rfl) rfl
theorem q1360 : (Jvm.Cond.codeWith ({ cls := "TunedHouses", name := "work", desc := "(I)I" } : Jvm.MethodName) prog_1_method_20_code (5 : Nat) (Option.some Jvm.ClassFile.FieldType.int) [((28 : Nat), (45 : Nat), (179 : Nat), (165 : Nat)), ((52 : Nat), (172 : Nat), (179 : Nat), (165 : Nat)), ((28 : Nat), (45 : Nat), (193 : Nat), (0 : Nat)), ((52 : Nat), (172 : Nat), (193 : Nat), (0 : Nat)), ((179 : Nat), (186 : Nat), (193 : Nat), (0 : Nat)), ((193 : Nat), (195 : Nat), (193 : Nat), (0 : Nat))]) ∈ lw_all := lw_g (lw_at lw_m6 62 rfl) rfl
theorem q1361 : (Jvm.Cond.classLink "TunedHouses" (194 : Nat) "TunedHouses$WorkReader") ∈ lw_all := lw_g (lw_at lw_m6 63 rfl) rfl
theorem q1363 : (Jvm.Cond.methodLink "TunedHouses" (196 : Nat) ({ cls := "TunedHouses$WorkReader", name := "<init>", desc := "([BILTunedHouses$Told;)V" } : Jvm.MethodName)) ∈ lw_all := lw_g (lw_at lw_m6 65 rfl) rfl
theorem q1376 : (Jvm.Cond.methodLink "TunedHouses" (199 : Nat) ({ cls := "TunedHouses$WorkReader", name := "reads", desc := "()Ljava/util/ArrayList;" } : Jvm.MethodName)) ∈ lw_all := lw_g (lw_at lw_m6 78 rfl) rfl
theorem q1491 : (Jvm.Cond.classLink "TunedHouses" (214 : Nat) "TunedHouses$Step") ∈ lw_all := lw_g (lw_at lw_m6 193 rfl) rfl
theorem q1492 : (Jvm.Cond.methodLink "TunedHouses" (216 : Nat) ({ cls := "TunedHouses$Step", name := "goes", desc := "(LTunedHouses$Terrace;)V" } : Jvm.MethodName)) ∈ lw_all := lw_g (lw_at lw_m6 194 rfl) rfl
theorem q1551 : (Jvm.Cond.privateMethod ({ cls := "TunedHouses", name := "forceBy", desc := "(IIIIIIII)I" } : Jvm.MethodName)) ∈ lw_tbl := lw_at lw_m7 13 rfl
theorem q1552 : (Jvm.Cond.instanceMethod ({ cls := "TunedHouses", name := "forceBy", desc := "(IIIIIIII)I" } : Jvm.MethodName)) ∈ lw_all := lw_g (lw_at lw_m7 14 rfl) rfl
theorem q1553 : (Jvm.Cond.code ({ cls := "TunedHouses", name := "forceBy", desc := "(IIIIIIII)I" } : Jvm.MethodName) prog_1_method_6_code (9 : Nat) (Option.some Jvm.ClassFile.FieldType.int)) ∈ lw_all := lw_g (lw_at lw_m7 15 rfl) rfl
theorem q1554 : (Jvm.Cond.methodLink "TunedHouses" (128 : Nat) ({ cls := "TunedHouses$Term", name := "of", desc := "([I)I" } : Jvm.MethodName)) ∈ lw_all := lw_g (lw_at lw_m7 16 rfl) rfl
theorem q1599 : (Jvm.Cond.methodLink "TunedHouses" (134 : Nat) ({ cls := "java/lang/Math", name := "min", desc := "(II)I" } : Jvm.MethodName)) ∈ lw_all := lw_g (lw_at lw_m7 61 rfl) rfl
theorem q1600 : (Jvm.Cond.methodLink "TunedHouses" (140 : Nat) ({ cls := "java/lang/Math", name := "max", desc := "(II)I" } : Jvm.MethodName)) ∈ lw_all := lw_g (lw_at lw_m7 62 rfl) rfl
theorem q1634 : (Jvm.Cond.instanceMethod ({ cls := "TunedHouses", name := "book", desc := "(I)I" } : Jvm.MethodName)) ∈ lw_all := lw_g (lw_at lw_m7 96 rfl) rfl
theorem q1635 : (Jvm.Cond.selects "TunedHouses" ({ cls := "TunedHouses", name := "book", desc := "(I)I" } : Jvm.MethodName) ({ cls := "TunedHouses", name := "book", desc := "(I)I" } : Jvm.MethodName)) ∈ lw_all := lw_g (lw_at lw_m7 97 rfl) rfl
theorem q1636 : (Jvm.Cond.codeWith ({ cls := "TunedHouses", name := "book", desc := "(I)I" } : Jvm.MethodName) prog_1_method_21_code (5 : Nat) (Option.some Jvm.ClassFile.FieldType.int) [((27 : Nat), (73 : Nat), (80 : Nat), (165 : Nat)), ((27 : Nat), (73 : Nat), (94 : Nat), (0 : Nat)), ((80 : Nat), (87 : Nat), (94 : Nat), (0 : Nat)), ((94 : Nat), (96 : Nat), (94 : Nat), (0 : Nat))]) ∈ lw_all := lw_g (lw_at lw_m7 98 rfl) rfl
theorem q1637 : (Jvm.Cond.classLink "TunedHouses" (220 : Nat) "TunedHouses$BookReader") ∈ lw_all := lw_g (lw_at lw_m7 99 rfl) rfl
theorem q1639 : (Jvm.Cond.methodLink "TunedHouses" (222 : Nat) ({ cls := "TunedHouses$BookReader", name := "<init>", desc := "([BI)V" } : Jvm.MethodName)) ∈ lw_all := lw_g (lw_at lw_m7 101 rfl) rfl
theorem q1645 : (Jvm.Cond.fieldLinkNest "TunedHouses" (232 : Nat) "TunedHouses$BookReader" "many" "I" "TunedHouses") ∈ lw_tbl := lw_at lw_m7 107 rfl
theorem q1656 : (Jvm.Cond.methodLink "TunedHouses" (223 : Nat) ({ cls := "TunedHouses$BookReader", name := "reads", desc := "()[I" } : Jvm.MethodName)) ∈ lw_all := lw_g (lw_at lw_m7 118 rfl) rfl
theorem q1675 : (Jvm.Cond.instanceMethod ({ cls := "TunedHouses", name := "told", desc := "(I)I" } : Jvm.MethodName)) ∈ lw_all := lw_g (lw_at lw_m7 137 rfl) rfl
theorem q1676 : (Jvm.Cond.selects "TunedHouses" ({ cls := "TunedHouses", name := "told", desc := "(I)I" } : Jvm.MethodName) ({ cls := "TunedHouses", name := "told", desc := "(I)I" } : Jvm.MethodName)) ∈ lw_all := lw_g (lw_at lw_m7 138 rfl) rfl
theorem q1677 : (Jvm.Cond.code ({ cls := "TunedHouses", name := "told", desc := "(I)I" } : Jvm.MethodName) prog_1_method_26_code (2 : Nat) (Option.some Jvm.ClassFile.FieldType.int)) ∈ lw_all := lw_g (lw_at lw_m7 139 rfl) rfl
theorem q1678 : (Jvm.Cond.methodLink "TunedHouses" (246 : Nat) ({ cls := "TunedHouses", name := "isIn", desc := "(III)Z" } : Jvm.MethodName)) ∈ lw_all := lw_g (lw_at lw_m7 140 rfl) rfl
theorem q1679 : (Jvm.Cond.static ({ cls := "TunedHouses", name := "isIn", desc := "(III)Z" } : Jvm.MethodName)) ∈ lw_all := lw_g (lw_at lw_m7 141 rfl) rfl
theorem q1680 : (Jvm.Cond.code ({ cls := "TunedHouses", name := "isIn", desc := "(III)Z" } : Jvm.MethodName) prog_1_method_12_code (3 : Nat) (Option.some Jvm.ClassFile.FieldType.boolean)) ∈ lw_all := lw_g (lw_at lw_m7 142 rfl) rfl
theorem q1681 : (Jvm.Cond.methodLink "TunedHouses" (259 : Nat) ({ cls := "TunedHouses", name := "standing", desc := "()I" } : Jvm.MethodName)) ∈ lw_all := lw_g (lw_at lw_m7 143 rfl) rfl
theorem q1682 : (Jvm.Cond.privateMethod ({ cls := "TunedHouses", name := "standing", desc := "()I" } : Jvm.MethodName)) ∈ lw_tbl := lw_at lw_m7 144 rfl
theorem q1683 : (Jvm.Cond.instanceMethod ({ cls := "TunedHouses", name := "standing", desc := "()I" } : Jvm.MethodName)) ∈ lw_all := lw_g (lw_at lw_m7 145 rfl) rfl
theorem q1684 : (Jvm.Cond.code ({ cls := "TunedHouses", name := "standing", desc := "()I" } : Jvm.MethodName) prog_1_method_24_code (3 : Nat) (Option.some Jvm.ClassFile.FieldType.int)) ∈ lw_all := lw_g (lw_at lw_m7 146 rfl) rfl
theorem q1685 : (Jvm.Cond.methodLink "TunedHouses" (265 : Nat) ({ cls := "TunedHouses$Terrace", name := "thoseThatAre", desc := "([I)I" } : Jvm.MethodName)) ∈ lw_all := lw_g (lw_at lw_m7 147 rfl) rfl
theorem q1686 : (Jvm.Cond.methodLink "TunedHouses" (268 : Nat) ({ cls := "TunedHouses", name := "fighting", desc := "()I" } : Jvm.MethodName)) ∈ lw_all := lw_g (lw_at lw_m7 148 rfl) rfl
theorem q1687 : (Jvm.Cond.privateMethod ({ cls := "TunedHouses", name := "fighting", desc := "()I" } : Jvm.MethodName)) ∈ lw_tbl := lw_at lw_m7 149 rfl
theorem q1688 : (Jvm.Cond.instanceMethod ({ cls := "TunedHouses", name := "fighting", desc := "()I" } : Jvm.MethodName)) ∈ lw_all := lw_g (lw_at lw_m7 150 rfl) rfl
theorem q1689 : (Jvm.Cond.code ({ cls := "TunedHouses", name := "fighting", desc := "()I" } : Jvm.MethodName) prog_1_method_25_code (3 : Nat) (Option.some Jvm.ClassFile.FieldType.int)) ∈ lw_all := lw_g (lw_at lw_m7 151 rfl) rfl
theorem q1690 : (Jvm.Cond.methodLink "TunedHouses" (242 : Nat) ({ cls := "TunedHouses$Terrace", name := "fights", desc := "(I)I" } : Jvm.MethodName)) ∈ lw_all := lw_g (lw_at lw_m7 152 rfl) rfl
theorem q1691 : (Jvm.Cond.methodLink "TunedHouses" (271 : Nat) ({ cls := "TunedHouses$Terrace", name := "all", desc := "()I" } : Jvm.MethodName)) ∈ lw_all := lw_g (lw_at lw_m7 153 rfl) rfl
theorem q1700 : (Jvm.Cond.instanceMethod ({ cls := "TunedHouses", name := "house", desc := "(II)I" } : Jvm.MethodName)) ∈ lw_all := lw_g (lw_at lw_m7 162 rfl) rfl
theorem q1701 : (Jvm.Cond.selects "TunedHouses" ({ cls := "TunedHouses", name := "house", desc := "(II)I" } : Jvm.MethodName) ({ cls := "TunedHouses", name := "house", desc := "(II)I" } : Jvm.MethodName)) ∈ lw_all := lw_g (lw_at lw_m7 163 rfl) rfl
theorem q1702 : (Jvm.Cond.code ({ cls := "TunedHouses", name := "house", desc := "(II)I" } : Jvm.MethodName) prog_1_method_27_code (5 : Nat) (Option.some Jvm.ClassFile.FieldType.int)) ∈ lw_all := lw_g (lw_at lw_m7 164 rfl) rfl
theorem q1703 : (Jvm.Cond.methodLink "TunedHouses" (274 : Nat) ({ cls := "TunedHouses", name := "needHouse", desc := "(I)V" } : Jvm.MethodName)) ∈ lw_all := lw_g (lw_at lw_m7 165 rfl) rfl
theorem q1704 : (Jvm.Cond.privateMethod ({ cls := "TunedHouses", name := "needHouse", desc := "(I)V" } : Jvm.MethodName)) ∈ lw_tbl := lw_at lw_m7 166 rfl
theorem q1705 : (Jvm.Cond.instanceMethod ({ cls := "TunedHouses", name := "needHouse", desc := "(I)V" } : Jvm.MethodName)) ∈ lw_all := lw_g (lw_at lw_m7 167 rfl) rfl
theorem q1706 : (Jvm.Cond.code ({ cls := "TunedHouses", name := "needHouse", desc := "(I)V" } : Jvm.MethodName) prog_1_method_9_code (2 : Nat) (Option.none : Option Jvm.ClassFile.FieldType)) ∈ lw_all := lw_g (lw_at lw_m7 168 rfl) rfl
theorem q1707 : (Jvm.Cond.methodLink "TunedHouses" (152 : Nat) ({ cls := "TunedHouses", name := "needThere", desc := "(II)V" } : Jvm.MethodName)) ∈ lw_all := lw_g (lw_at lw_m7 169 rfl) rfl
theorem q1708 : (Jvm.Cond.privateMethod ({ cls := "TunedHouses", name := "needThere", desc := "(II)V" } : Jvm.MethodName)) ∈ lw_tbl := lw_at lw_m7 170 rfl
theorem q1709 : (Jvm.Cond.instanceMethod ({ cls := "TunedHouses", name := "needThere", desc := "(II)V" } : Jvm.MethodName)) ∈ lw_all := lw_g (lw_at lw_m7 171 rfl) rfl
theorem q1710 : (Jvm.Cond.code ({ cls := "TunedHouses", name := "needThere", desc := "(II)V" } : Jvm.MethodName) prog_1_method_8_code (3 : Nat) (Option.none : Option Jvm.ClassFile.FieldType)) ∈ lw_all := lw_g (lw_at lw_m7 172 rfl) rfl
theorem q1711 : (Jvm.Cond.classLink "TunedHouses" (146 : Nat) "java/util/NoSuchElementException") ∈ lw_all := lw_g (lw_at lw_m7 173 rfl) rfl
theorem q1720 : (Jvm.Cond.methodLink "TunedHouses" (148 : Nat) ({ cls := "java/util/NoSuchElementException", name := "<init>", desc := "()V" } : Jvm.MethodName)) ∈ lw_all := lw_g (lw_at lw_m7 182 rfl) rfl
theorem q1726 : (Jvm.Cond.methodLink "TunedHouses" (277 : Nat) ({ cls := "TunedHouses$Terrace", name := "is", desc := "(I)I" } : Jvm.MethodName)) ∈ lw_all := lw_g (lw_at lw_m7 188 rfl) rfl
theorem q1731 : (Jvm.Cond.instanceMethod ({ cls := "TunedHouses", name := "there", desc := "(II)I" } : Jvm.MethodName)) ∈ lw_all := lw_g (lw_at lw_m7 193 rfl) rfl
theorem q1732 : (Jvm.Cond.selects "TunedHouses" ({ cls := "TunedHouses", name := "there", desc := "(II)I" } : Jvm.MethodName) ({ cls := "TunedHouses", name := "there", desc := "(II)I" } : Jvm.MethodName)) ∈ lw_all := lw_g (lw_at lw_m7 194 rfl) rfl
theorem q1733 : (Jvm.Cond.code ({ cls := "TunedHouses", name := "there", desc := "(II)I" } : Jvm.MethodName) prog_1_method_28_code (3 : Nat) (Option.some Jvm.ClassFile.FieldType.int)) ∈ lw_all := lw_g (lw_at lw_m7 195 rfl) rfl
theorem q1734 : (Jvm.Cond.methodLink "TunedHouses" (292 : Nat) ({ cls := "TunedHouses", name := "isThing", desc := "(I)Z" } : Jvm.MethodName)) ∈ lw_all := lw_g (lw_at lw_m7 196 rfl) rfl
theorem q1735 : (Jvm.Cond.static ({ cls := "TunedHouses", name := "isThing", desc := "(I)Z" } : Jvm.MethodName)) ∈ lw_all := lw_g (lw_at lw_m7 197 rfl) rfl
theorem q1736 : (Jvm.Cond.code ({ cls := "TunedHouses", name := "isThing", desc := "(I)Z" } : Jvm.MethodName) prog_1_method_13_code (1 : Nat) (Option.some Jvm.ClassFile.FieldType.boolean)) ∈ lw_all := lw_g (lw_at lw_m7 198 rfl) rfl
theorem q1741 : (Jvm.Cond.instanceMethod ({ cls := "TunedHouses", name := "wall", desc := "(II)I" } : Jvm.MethodName)) ∈ lw_all := lw_g (lw_at lw_m7 203 rfl) rfl
theorem q1742 : (Jvm.Cond.selects "TunedHouses" ({ cls := "TunedHouses", name := "wall", desc := "(II)I" } : Jvm.MethodName) ({ cls := "TunedHouses", name := "wall", desc := "(II)I" } : Jvm.MethodName)) ∈ lw_all := lw_g (lw_at lw_m7 204 rfl) rfl
theorem q1743 : (Jvm.Cond.code ({ cls := "TunedHouses", name := "wall", desc := "(II)I" } : Jvm.MethodName) prog_1_method_29_code (3 : Nat) (Option.some Jvm.ClassFile.FieldType.int)) ∈ lw_all := lw_g (lw_at lw_m7 205 rfl) rfl
theorem q1748 : (Jvm.Cond.instanceMethod ({ cls := "TunedHouses", name := "piano", desc := "(II)I" } : Jvm.MethodName)) ∈ lw_all := lw_g (lw_at lw_m7 210 rfl) rfl
theorem q1749 : (Jvm.Cond.selects "TunedHouses" ({ cls := "TunedHouses", name := "piano", desc := "(II)I" } : Jvm.MethodName) ({ cls := "TunedHouses", name := "piano", desc := "(II)I" } : Jvm.MethodName)) ∈ lw_all := lw_g (lw_at lw_m7 211 rfl) rfl
theorem q1750 : (Jvm.Cond.code ({ cls := "TunedHouses", name := "piano", desc := "(II)I" } : Jvm.MethodName) prog_1_method_30_code (3 : Nat) (Option.some Jvm.ClassFile.FieldType.int)) ∈ lw_all := lw_g (lw_at lw_m7 212 rfl) rfl
theorem q1751 : (Jvm.Cond.methodLink "TunedHouses" (305 : Nat) ({ cls := "TunedHouses", name := "needPiano", desc := "(I)V" } : Jvm.MethodName)) ∈ lw_all := lw_g (lw_at lw_m7 213 rfl) rfl
theorem q1752 : (Jvm.Cond.privateMethod ({ cls := "TunedHouses", name := "needPiano", desc := "(I)V" } : Jvm.MethodName)) ∈ lw_tbl := lw_at lw_m7 214 rfl
theorem q1753 : (Jvm.Cond.instanceMethod ({ cls := "TunedHouses", name := "needPiano", desc := "(I)V" } : Jvm.MethodName)) ∈ lw_all := lw_g (lw_at lw_m7 215 rfl) rfl
theorem q1754 : (Jvm.Cond.code ({ cls := "TunedHouses", name := "needPiano", desc := "(I)V" } : Jvm.MethodName) prog_1_method_10_code (2 : Nat) (Option.none : Option Jvm.ClassFile.FieldType)) ∈ lw_all := lw_g (lw_at lw_m7 216 rfl) rfl
theorem q1755 : (Jvm.Cond.methodLink "TunedHouses" (323 : Nat) ({ cls := "TunedHouses$Terrace", name := "force", desc := "(I)I" } : Jvm.MethodName)) ∈ lw_all := lw_g (lw_at lw_m7 217 rfl) rfl
theorem q1756 : (Jvm.Cond.methodLink "TunedHouses" (326 : Nat) ({ cls := "TunedHouses$Terrace", name := "brings", desc := "(I)I" } : Jvm.MethodName)) ∈ lw_all := lw_g (lw_at lw_m7 218 rfl) rfl
theorem q1761 : (Jvm.Cond.instanceMethod ({ cls := "TunedHouses", name := "would", desc := "(IIIIIIII)I" } : Jvm.MethodName)) ∈ lw_all := lw_g (lw_at lw_m7 223 rfl) rfl
theorem q1762 : (Jvm.Cond.selects "TunedHouses" ({ cls := "TunedHouses", name := "would", desc := "(IIIIIIII)I" } : Jvm.MethodName) ({ cls := "TunedHouses", name := "would", desc := "(IIIIIIII)I" } : Jvm.MethodName)) ∈ lw_all := lw_g (lw_at lw_m7 224 rfl) rfl
theorem q1763 : (Jvm.Cond.code ({ cls := "TunedHouses", name := "would", desc := "(IIIIIIII)I" } : Jvm.MethodName) prog_1_method_31_code (9 : Nat) (Option.some Jvm.ClassFile.FieldType.int)) ∈ lw_all := lw_g (lw_at lw_m7 225 rfl) rfl
theorem q1764 : (Jvm.Cond.methodLink "TunedHouses" (329 : Nat) ({ cls := "TunedHouses", name := "forceBy", desc := "(IIIIIIII)I" } : Jvm.MethodName)) ∈ lw_all := lw_g (lw_at lw_m7 226 rfl) rfl
theorem q1769 : (Jvm.Cond.instanceMethod ({ cls := "TunedHouses", name := "ahead", desc := "(III)I" } : Jvm.MethodName)) ∈ lw_all := lw_g (lw_at lw_m7 231 rfl) rfl
theorem q1770 : (Jvm.Cond.selects "TunedHouses" ({ cls := "TunedHouses", name := "ahead", desc := "(III)I" } : Jvm.MethodName) ({ cls := "TunedHouses", name := "ahead", desc := "(III)I" } : Jvm.MethodName)) ∈ lw_all := lw_g (lw_at lw_m7 232 rfl) rfl
theorem q1771 : (Jvm.Cond.code ({ cls := "TunedHouses", name := "ahead", desc := "(III)I" } : Jvm.MethodName) prog_1_method_32_code (6 : Nat) (Option.some Jvm.ClassFile.FieldType.int)) ∈ lw_all := lw_g (lw_at lw_m7 233 rfl) rfl
theorem q1772 : (Jvm.Cond.methodLink "TunedHouses" (333 : Nat) ({ cls := "TunedHouses$Terrace", name := "passes", desc := "()V" } : Jvm.MethodName)) ∈ lw_all := lw_g (lw_at lw_m7 234 rfl) rfl
theorem q1777 : (Jvm.Cond.instanceMethod ({ cls := "TunedHouses", name := "when", desc := "(II)I" } : Jvm.MethodName)) ∈ lw_all := lw_g (lw_at lw_m7 239 rfl) rfl
theorem q1778 : (Jvm.Cond.selects "TunedHouses" ({ cls := "TunedHouses", name := "when", desc := "(II)I" } : Jvm.MethodName) ({ cls := "TunedHouses", name := "when", desc := "(II)I" } : Jvm.MethodName)) ∈ lw_all := lw_g (lw_at lw_m8 0 rfl) rfl
theorem q1779 : (Jvm.Cond.code ({ cls := "TunedHouses", name := "when", desc := "(II)I" } : Jvm.MethodName) prog_1_method_33_code (5 : Nat) (Option.some Jvm.ClassFile.FieldType.int)) ∈ lw_all := lw_g (lw_at lw_m8 1 rfl) rfl
theorem q1784 : (Jvm.Cond.instanceMethod ({ cls := "TunedHouses", name := "muffle", desc := "(I)I" } : Jvm.MethodName)) ∈ lw_all := lw_g (lw_at lw_m8 6 rfl) rfl
theorem q1785 : (Jvm.Cond.selects "TunedHouses" ({ cls := "TunedHouses", name := "muffle", desc := "(I)I" } : Jvm.MethodName) ({ cls := "TunedHouses", name := "muffle", desc := "(I)I" } : Jvm.MethodName)) ∈ lw_all := lw_g (lw_at lw_m8 7 rfl) rfl
theorem q1786 : (Jvm.Cond.code ({ cls := "TunedHouses", name := "muffle", desc := "(I)I" } : Jvm.MethodName) prog_1_method_34_code (3 : Nat) (Option.some Jvm.ClassFile.FieldType.int)) ∈ lw_all := lw_g (lw_at lw_m8 8 rfl) rfl
theorem q1787 : (Jvm.Cond.methodLink "TunedHouses" (336 : Nat) ({ cls := "TunedHouses$Terrace", name := "forceWith", desc := "(II)I" } : Jvm.MethodName)) ∈ lw_all := lw_g (lw_at lw_m8 9 rfl) rfl
theorem q1792 : (Jvm.Cond.instanceMethod ({ cls := "TunedHouses", name := "placed", desc := "(I)I" } : Jvm.MethodName)) ∈ lw_all := lw_g (lw_at lw_m8 14 rfl) rfl
theorem q1793 : (Jvm.Cond.selects "TunedHouses" ({ cls := "TunedHouses", name := "placed", desc := "(I)I" } : Jvm.MethodName) ({ cls := "TunedHouses", name := "placed", desc := "(I)I" } : Jvm.MethodName)) ∈ lw_all := lw_g (lw_at lw_m8 15 rfl) rfl
theorem q1794 : (Jvm.Cond.code ({ cls := "TunedHouses", name := "placed", desc := "(I)I" } : Jvm.MethodName) prog_1_method_47_code (2 : Nat) (Option.some Jvm.ClassFile.FieldType.int)) ∈ lw_all := lw_g (lw_at lw_m8 16 rfl) rfl
theorem q1799 : (Jvm.Cond.instanceMethod ({ cls := "TunedHouses", name := "from", desc := "(II)I" } : Jvm.MethodName)) ∈ lw_all := lw_g (lw_at lw_m8 21 rfl) rfl
theorem q1800 : (Jvm.Cond.selects "TunedHouses" ({ cls := "TunedHouses", name := "from", desc := "(II)I" } : Jvm.MethodName) ({ cls := "TunedHouses", name := "from", desc := "(II)I" } : Jvm.MethodName)) ∈ lw_all := lw_g (lw_at lw_m8 22 rfl) rfl
theorem q1801 : (Jvm.Cond.code ({ cls := "TunedHouses", name := "from", desc := "(II)I" } : Jvm.MethodName) prog_1_method_50_code (6 : Nat) (Option.some Jvm.ClassFile.FieldType.int)) ∈ lw_all := lw_g (lw_at lw_m8 23 rfl) rfl
theorem q1802 : (Jvm.Cond.methodLink "TunedHouses" (364 : Nat) ({ cls := "TunedHouses", name := "layFrom", desc := "(I)V" } : Jvm.MethodName)) ∈ lw_all := lw_g (lw_at lw_m8 24 rfl) rfl
theorem q1803 : (Jvm.Cond.privateMethod ({ cls := "TunedHouses", name := "layFrom", desc := "(I)V" } : Jvm.MethodName)) ∈ lw_tbl := lw_at lw_m8 25 rfl
theorem q1804 : (Jvm.Cond.instanceMethod ({ cls := "TunedHouses", name := "layFrom", desc := "(I)V" } : Jvm.MethodName)) ∈ lw_all := lw_g (lw_at lw_m8 26 rfl) rfl
theorem q1805 : (Jvm.Cond.code ({ cls := "TunedHouses", name := "layFrom", desc := "(I)V" } : Jvm.MethodName) prog_1_method_48_code (5 : Nat) (Option.none : Option Jvm.ClassFile.FieldType)) ∈ lw_all := lw_g (lw_at lw_m8 27 rfl) rfl
theorem q1806 : (Jvm.Cond.methodLink "TunedHouses" (367 : Nat) ({ cls := "TunedHouses", name := "isFit", desc := "(I)Z" } : Jvm.MethodName)) ∈ lw_all := lw_g (lw_at lw_m8 28 rfl) rfl
theorem q1807 : (Jvm.Cond.privateMethod ({ cls := "TunedHouses", name := "isFit", desc := "(I)Z" } : Jvm.MethodName)) ∈ lw_tbl := lw_at lw_m8 29 rfl
theorem q1808 : (Jvm.Cond.instanceMethod ({ cls := "TunedHouses", name := "isFit", desc := "(I)Z" } : Jvm.MethodName)) ∈ lw_all := lw_g (lw_at lw_m8 30 rfl) rfl
theorem q1809 : (Jvm.Cond.code ({ cls := "TunedHouses", name := "isFit", desc := "(I)Z" } : Jvm.MethodName) prog_1_method_49_code (3 : Nat) (Option.some Jvm.ClassFile.FieldType.boolean)) ∈ lw_all := lw_g (lw_at lw_m8 31 rfl) rfl
theorem q1814 : (Jvm.Cond.instanceMethod ({ cls := "TunedHouses", name := "look", desc := "(II)I" } : Jvm.MethodName)) ∈ lw_all := lw_g (lw_at lw_m8 36 rfl) rfl
theorem q1815 : (Jvm.Cond.selects "TunedHouses" ({ cls := "TunedHouses", name := "look", desc := "(II)I" } : Jvm.MethodName) ({ cls := "TunedHouses", name := "look", desc := "(II)I" } : Jvm.MethodName)) ∈ lw_all := lw_g (lw_at lw_m8 37 rfl) rfl
theorem q1816 : (Jvm.Cond.code ({ cls := "TunedHouses", name := "look", desc := "(II)I" } : Jvm.MethodName) prog_1_method_52_code (7 : Nat) (Option.some Jvm.ClassFile.FieldType.int)) ∈ lw_all := lw_g (lw_at lw_m8 38 rfl) rfl
theorem q1817 : (Jvm.Cond.methodLink "TunedHouses" (370 : Nat) ({ cls := "TunedHouses", name := "worstAt", desc := "(I)I" } : Jvm.MethodName)) ∈ lw_all := lw_g (lw_at lw_m8 39 rfl) rfl
theorem q1818 : (Jvm.Cond.privateMethod ({ cls := "TunedHouses", name := "worstAt", desc := "(I)I" } : Jvm.MethodName)) ∈ lw_tbl := lw_at lw_m8 40 rfl
theorem q1819 : (Jvm.Cond.instanceMethod ({ cls := "TunedHouses", name := "worstAt", desc := "(I)I" } : Jvm.MethodName)) ∈ lw_all := lw_g (lw_at lw_m8 41 rfl) rfl
theorem q1820 : (Jvm.Cond.code ({ cls := "TunedHouses", name := "worstAt", desc := "(I)I" } : Jvm.MethodName) prog_1_method_51_code (5 : Nat) (Option.some Jvm.ClassFile.FieldType.int)) ∈ lw_all := lw_g (lw_at lw_m8 42 rfl) rfl
theorem q1825 : (Jvm.Cond.instanceMethod ({ cls := "TunedHouses", name := "way", desc := "(II)I" } : Jvm.MethodName)) ∈ lw_all := lw_g (lw_at lw_m8 47 rfl) rfl
theorem q1826 : (Jvm.Cond.selects "TunedHouses" ({ cls := "TunedHouses", name := "way", desc := "(II)I" } : Jvm.MethodName) ({ cls := "TunedHouses", name := "way", desc := "(II)I" } : Jvm.MethodName)) ∈ lw_all := lw_g (lw_at lw_m8 48 rfl) rfl
theorem q1827 : (Jvm.Cond.code ({ cls := "TunedHouses", name := "way", desc := "(II)I" } : Jvm.MethodName) prog_1_method_53_code (7 : Nat) (Option.some Jvm.ClassFile.FieldType.int)) ∈ lw_all := lw_g (lw_at lw_m8 49 rfl) rfl
theorem q1832 : (Jvm.Cond.instanceMethod ({ cls := "TunedHouses", name := "price", desc := "(III)J" } : Jvm.MethodName)) ∈ lw_all := lw_g (lw_at lw_m8 54 rfl) rfl
theorem q1833 : (Jvm.Cond.selects "TunedHouses" ({ cls := "TunedHouses", name := "price", desc := "(III)J" } : Jvm.MethodName) ({ cls := "TunedHouses", name := "price", desc := "(III)J" } : Jvm.MethodName)) ∈ lw_all := lw_g (lw_at lw_m8 55 rfl) rfl
theorem q1834 : (Jvm.Cond.code ({ cls := "TunedHouses", name := "price", desc := "(III)J" } : Jvm.MethodName) prog_1_method_57_code (14 : Nat) (Option.some Jvm.ClassFile.FieldType.long)) ∈ lw_all := lw_g (lw_at lw_m8 56 rfl) rfl
theorem q1835 : (Jvm.Cond.methodLink "TunedHouses" (381 : Nat) ({ cls := "TunedHouses", name := "bestOf", desc := "(II)J" } : Jvm.MethodName)) ∈ lw_all := lw_g (lw_at lw_m8 57 rfl) rfl
theorem q1836 : (Jvm.Cond.static ({ cls := "TunedHouses", name := "bestOf", desc := "(II)J" } : Jvm.MethodName)) ∈ lw_all := lw_g (lw_at lw_m8 58 rfl) rfl
theorem q1837 : (Jvm.Cond.code ({ cls := "TunedHouses", name := "bestOf", desc := "(II)J" } : Jvm.MethodName) prog_1_method_56_code (9 : Nat) (Option.some Jvm.ClassFile.FieldType.long)) ∈ lw_all := lw_g (lw_at lw_m8 59 rfl) rfl
theorem q1838 : (Jvm.Cond.methodLink "TunedHouses" (385 : Nat) ({ cls := "java/lang/Math", name := "max", desc := "(JJ)J" } : Jvm.MethodName)) ∈ lw_all := lw_g (lw_at lw_m8 60 rfl) rfl
theorem q1845 : (Jvm.Cond.instanceMethod ({ cls := "TunedHouses", name := "tuner", desc := "(III)I" } : Jvm.MethodName)) ∈ lw_all := lw_g (lw_at lw_m8 67 rfl) rfl
theorem q1846 : (Jvm.Cond.selects "TunedHouses" ({ cls := "TunedHouses", name := "tuner", desc := "(III)I" } : Jvm.MethodName) ({ cls := "TunedHouses", name := "tuner", desc := "(III)I" } : Jvm.MethodName)) ∈ lw_all := lw_g (lw_at lw_m8 68 rfl) rfl
theorem q1847 : (Jvm.Cond.code ({ cls := "TunedHouses", name := "tuner", desc := "(III)I" } : Jvm.MethodName) prog_1_method_60_code (8 : Nat) (Option.some Jvm.ClassFile.FieldType.int)) ∈ lw_all := lw_g (lw_at lw_m8 69 rfl) rfl
theorem q1848 : (Jvm.Cond.methodLink "TunedHouses" (388 : Nat) ({ cls := "TunedHouses", name := "heHas", desc := "(III)I" } : Jvm.MethodName)) ∈ lw_all := lw_g (lw_at lw_m8 70 rfl) rfl
theorem q1849 : (Jvm.Cond.static ({ cls := "TunedHouses", name := "heHas", desc := "(III)I" } : Jvm.MethodName)) ∈ lw_all := lw_g (lw_at lw_m8 71 rfl) rfl
theorem q1850 : (Jvm.Cond.code ({ cls := "TunedHouses", name := "heHas", desc := "(III)I" } : Jvm.MethodName) prog_1_method_58_code (3 : Nat) (Option.some Jvm.ClassFile.FieldType.int)) ∈ lw_all := lw_g (lw_at lw_m8 72 rfl) rfl
theorem q1851 : (Jvm.Cond.methodLink "TunedHouses" (392 : Nat) ({ cls := "TunedHouses", name := "itHas", desc := "(IIII)I" } : Jvm.MethodName)) ∈ lw_all := lw_g (lw_at lw_m8 73 rfl) rfl
theorem q1852 : (Jvm.Cond.static ({ cls := "TunedHouses", name := "itHas", desc := "(IIII)I" } : Jvm.MethodName)) ∈ lw_all := lw_g (lw_at lw_m8 74 rfl) rfl
theorem q1853 : (Jvm.Cond.code ({ cls := "TunedHouses", name := "itHas", desc := "(IIII)I" } : Jvm.MethodName) prog_1_method_59_code (4 : Nat) (Option.some Jvm.ClassFile.FieldType.int)) ∈ lw_all := lw_g (lw_at lw_m8 75 rfl) rfl
theorem q1858 : (Jvm.Cond.instanceMethod ({ cls := "TunedHouses", name := "share", desc := "(III)I" } : Jvm.MethodName)) ∈ lw_all := lw_g (lw_at lw_m8 80 rfl) rfl
theorem q1859 : (Jvm.Cond.selects "TunedHouses" ({ cls := "TunedHouses", name := "share", desc := "(III)I" } : Jvm.MethodName) ({ cls := "TunedHouses", name := "share", desc := "(III)I" } : Jvm.MethodName)) ∈ lw_all := lw_g (lw_at lw_m8 81 rfl) rfl
theorem q1860 : (Jvm.Cond.code ({ cls := "TunedHouses", name := "share", desc := "(III)I" } : Jvm.MethodName) prog_1_method_62_code (5 : Nat) (Option.some Jvm.ClassFile.FieldType.int)) ∈ lw_all := lw_g (lw_at lw_m8 82 rfl) rfl
theorem q1861 : (Jvm.Cond.methodLink "TunedHouses" (396 : Nat) ({ cls := "TunedHouses", name := "given", desc := "(II)I" } : Jvm.MethodName)) ∈ lw_all := lw_g (lw_at lw_m8 83 rfl) rfl
theorem q1862 : (Jvm.Cond.privateMethod ({ cls := "TunedHouses", name := "given", desc := "(II)I" } : Jvm.MethodName)) ∈ lw_tbl := lw_at lw_m8 84 rfl
theorem q1863 : (Jvm.Cond.instanceMethod ({ cls := "TunedHouses", name := "given", desc := "(II)I" } : Jvm.MethodName)) ∈ lw_all := lw_g (lw_at lw_m8 85 rfl) rfl
theorem q1864 : (Jvm.Cond.code ({ cls := "TunedHouses", name := "given", desc := "(II)I" } : Jvm.MethodName) prog_1_method_61_code (5 : Nat) (Option.some Jvm.ClassFile.FieldType.int)) ∈ lw_all := lw_g (lw_at lw_m8 86 rfl) rfl
theorem q1869 : (Jvm.Cond.instanceMethod ({ cls := "TunedHouses", name := "those", desc := "(I)I" } : Jvm.MethodName)) ∈ lw_all := lw_g (lw_at lw_m8 91 rfl) rfl
theorem q1870 : (Jvm.Cond.selects "TunedHouses" ({ cls := "TunedHouses", name := "those", desc := "(I)I" } : Jvm.MethodName) ({ cls := "TunedHouses", name := "those", desc := "(I)I" } : Jvm.MethodName)) ∈ lw_all := lw_g (lw_at lw_m8 92 rfl) rfl
theorem q1871 : (Jvm.Cond.code ({ cls := "TunedHouses", name := "those", desc := "(I)I" } : Jvm.MethodName) prog_1_method_35_code (4 : Nat) (Option.some Jvm.ClassFile.FieldType.int)) ∈ lw_all := lw_g (lw_at lw_m8 93 rfl) rfl
theorem q1876 : (Jvm.Cond.instanceMethod ({ cls := "TunedHouses", name := "loudest", desc := "(I)I" } : Jvm.MethodName)) ∈ lw_all := lw_g (lw_at lw_m8 98 rfl) rfl
theorem q1877 : (Jvm.Cond.selects "TunedHouses" ({ cls := "TunedHouses", name := "loudest", desc := "(I)I" } : Jvm.MethodName) ({ cls := "TunedHouses", name := "loudest", desc := "(I)I" } : Jvm.MethodName)) ∈ lw_all := lw_g (lw_at lw_m8 99 rfl) rfl
theorem q1878 : (Jvm.Cond.code ({ cls := "TunedHouses", name := "loudest", desc := "(I)I" } : Jvm.MethodName) prog_1_method_36_code (4 : Nat) (Option.some Jvm.ClassFile.FieldType.int)) ∈ lw_all := lw_g (lw_at lw_m8 100 rfl) rfl
theorem q1883 : (Jvm.Cond.instanceMethod ({ cls := "TunedHouses", name := "quiet", desc := "(I)I" } : Jvm.MethodName)) ∈ lw_all := lw_g (lw_at lw_m8 105 rfl) rfl
theorem q1884 : (Jvm.Cond.selects "TunedHouses" ({ cls := "TunedHouses", name := "quiet", desc := "(I)I" } : Jvm.MethodName) ({ cls := "TunedHouses", name := "quiet", desc := "(I)I" } : Jvm.MethodName)) ∈ lw_all := lw_g (lw_at lw_m8 106 rfl) rfl
theorem q1885 : (Jvm.Cond.code ({ cls := "TunedHouses", name := "quiet", desc := "(I)I" } : Jvm.MethodName) prog_1_method_37_code (4 : Nat) (Option.some Jvm.ClassFile.FieldType.int)) ∈ lw_all := lw_g (lw_at lw_m8 107 rfl) rfl
theorem q1886 : (Jvm.Cond.methodLink "TunedHouses" (339 : Nat) ({ cls := "TunedHouses$Terrace", name := "fightsAt", desc := "(II)I" } : Jvm.MethodName)) ∈ lw_all := lw_g (lw_at lw_m8 108 rfl) rfl
theorem q1891 : (Jvm.Cond.instanceMethod ({ cls := "TunedHouses", name := "oldest", desc := "(I)I" } : Jvm.MethodName)) ∈ lw_all := lw_g (lw_at lw_m8 113 rfl) rfl
theorem q1892 : (Jvm.Cond.selects "TunedHouses" ({ cls := "TunedHouses", name := "oldest", desc := "(I)I" } : Jvm.MethodName) ({ cls := "TunedHouses", name := "oldest", desc := "(I)I" } : Jvm.MethodName)) ∈ lw_all := lw_g (lw_at lw_m8 114 rfl) rfl
theorem q1893 : (Jvm.Cond.code ({ cls := "TunedHouses", name := "oldest", desc := "(I)I" } : Jvm.MethodName) prog_1_method_39_code (4 : Nat) (Option.some Jvm.ClassFile.FieldType.int)) ∈ lw_all := lw_g (lw_at lw_m8 115 rfl) rfl
theorem q1898 : (Jvm.Cond.instanceMethod ({ cls := "TunedHouses", name := "margin", desc := "(I)I" } : Jvm.MethodName)) ∈ lw_all := lw_g (lw_at lw_m8 120 rfl) rfl
theorem q1899 : (Jvm.Cond.selects "TunedHouses" ({ cls := "TunedHouses", name := "margin", desc := "(I)I" } : Jvm.MethodName) ({ cls := "TunedHouses", name := "margin", desc := "(I)I" } : Jvm.MethodName)) ∈ lw_all := lw_g (lw_at lw_m8 121 rfl) rfl
theorem q1900 : (Jvm.Cond.code ({ cls := "TunedHouses", name := "margin", desc := "(I)I" } : Jvm.MethodName) prog_1_method_41_code (5 : Nat) (Option.some Jvm.ClassFile.FieldType.int)) ∈ lw_all := lw_g (lw_at lw_m8 122 rfl) rfl
theorem q1905 : (Jvm.Cond.instanceMethod ({ cls := "TunedHouses", name := "tunes", desc := "(II)I" } : Jvm.MethodName)) ∈ lw_all := lw_g (lw_at lw_m8 127 rfl) rfl
theorem q1906 : (Jvm.Cond.selects "TunedHouses" ({ cls := "TunedHouses", name := "tunes", desc := "(II)I" } : Jvm.MethodName) ({ cls := "TunedHouses", name := "tunes", desc := "(II)I" } : Jvm.MethodName)) ∈ lw_all := lw_g (lw_at lw_m8 128 rfl) rfl
theorem q1907 : (Jvm.Cond.code ({ cls := "TunedHouses", name := "tunes", desc := "(II)I" } : Jvm.MethodName) prog_1_method_42_code (4 : Nat) (Option.some Jvm.ClassFile.FieldType.int)) ∈ lw_all := lw_g (lw_at lw_m8 129 rfl) rfl
theorem q1908 : (Jvm.Cond.methodLink "TunedHouses" (345 : Nat) ({ cls := "TunedHouses$Terrace", name := "puts", desc := "(II)Z" } : Jvm.MethodName)) ∈ lw_all := lw_g (lw_at lw_m8 130 rfl) rfl
theorem q1913 : (Jvm.Cond.instanceMethod ({ cls := "TunedHouses", name := "year", desc := "(IIII)I" } : Jvm.MethodName)) ∈ lw_all := lw_g (lw_at lw_m8 135 rfl) rfl
theorem q1914 : (Jvm.Cond.selects "TunedHouses" ({ cls := "TunedHouses", name := "year", desc := "(IIII)I" } : Jvm.MethodName) ({ cls := "TunedHouses", name := "year", desc := "(IIII)I" } : Jvm.MethodName)) ∈ lw_all := lw_g (lw_at lw_m8 136 rfl) rfl
theorem q1915 : (Jvm.Cond.code ({ cls := "TunedHouses", name := "year", desc := "(IIII)I" } : Jvm.MethodName) prog_1_method_66_code (6 : Nat) (Option.some Jvm.ClassFile.FieldType.int)) ∈ lw_all := lw_g (lw_at lw_m8 137 rfl) rfl
theorem q1916 : (Jvm.Cond.methodLink "TunedHouses" (409 : Nat) ({ cls := "TunedHouses", name := "isYear", desc := "(II)Z" } : Jvm.MethodName)) ∈ lw_all := lw_g (lw_at lw_m8 138 rfl) rfl
theorem q1917 : (Jvm.Cond.static ({ cls := "TunedHouses", name := "isYear", desc := "(II)Z" } : Jvm.MethodName)) ∈ lw_all := lw_g (lw_at lw_m8 139 rfl) rfl
theorem q1918 : (Jvm.Cond.code ({ cls := "TunedHouses", name := "isYear", desc := "(II)Z" } : Jvm.MethodName) prog_1_method_65_code (2 : Nat) (Option.some Jvm.ClassFile.FieldType.boolean)) ∈ lw_all := lw_g (lw_at lw_m8 140 rfl) rfl
theorem q1919 : (Jvm.Cond.methodLink "TunedHouses" (412 : Nat) ({ cls := "TunedHouses", name := "yearBy", desc := "(III)LTunedHouses$Terrace;" } : Jvm.MethodName)) ∈ lw_all := lw_g (lw_at lw_m8 141 rfl) rfl
theorem q1920 : (Jvm.Cond.privateMethod ({ cls := "TunedHouses", name := "yearBy", desc := "(III)LTunedHouses$Terrace;" } : Jvm.MethodName)) ∈ lw_tbl := lw_at lw_m8 142 rfl
theorem q1921 : (Jvm.Cond.instanceMethod ({ cls := "TunedHouses", name := "yearBy", desc := "(III)LTunedHouses$Terrace;" } : Jvm.MethodName)) ∈ lw_all := lw_g (lw_at lw_m8 143 rfl) rfl
theorem q1922 : (Jvm.Cond.code ({ cls := "TunedHouses", name := "yearBy", desc := "(III)LTunedHouses$Terrace;" } : Jvm.MethodName) prog_1_method_64_code (7 : Nat) (Option.some (Jvm.ClassFile.FieldType.object "TunedHouses$Terrace"))) ∈ lw_all := lw_g (lw_at lw_m8 144 rfl) rfl
theorem q1923 : (Jvm.Cond.methodLink "TunedHouses" (406 : Nat) ({ cls := "TunedHouses", name := "draw", desc := "(I)I" } : Jvm.MethodName)) ∈ lw_all := lw_g (lw_at lw_m8 145 rfl) rfl
theorem q1924 : (Jvm.Cond.privateMethod ({ cls := "TunedHouses", name := "draw", desc := "(I)I" } : Jvm.MethodName)) ∈ lw_tbl := lw_at lw_m8 146 rfl
theorem q1925 : (Jvm.Cond.instanceMethod ({ cls := "TunedHouses", name := "draw", desc := "(I)I" } : Jvm.MethodName)) ∈ lw_all := lw_g (lw_at lw_m8 147 rfl) rfl
theorem q1926 : (Jvm.Cond.code ({ cls := "TunedHouses", name := "draw", desc := "(I)I" } : Jvm.MethodName) prog_1_method_63_code (2 : Nat) (Option.some Jvm.ClassFile.FieldType.int)) ∈ lw_all := lw_g (lw_at lw_m8 148 rfl) rfl
theorem q1927 : (Jvm.Cond.constant "TunedHouses" (402 : Nat) (1103515245 : Int32)) ∈ lw_all := lw_g (lw_at lw_m8 149 rfl) rfl
theorem q1932 : (Jvm.Cond.instanceMethod ({ cls := "TunedHouses", name := "span", desc := "(IIIIII)I" } : Jvm.MethodName)) ∈ lw_all := lw_g (lw_at lw_m8 154 rfl) rfl
theorem q1933 : (Jvm.Cond.selects "TunedHouses" ({ cls := "TunedHouses", name := "span", desc := "(IIIIII)I" } : Jvm.MethodName) ({ cls := "TunedHouses", name := "span", desc := "(IIIIII)I" } : Jvm.MethodName)) ∈ lw_all := lw_g (lw_at lw_m8 155 rfl) rfl
theorem q1934 : (Jvm.Cond.code ({ cls := "TunedHouses", name := "span", desc := "(IIIIII)I" } : Jvm.MethodName) prog_1_method_67_code (13 : Nat) (Option.some Jvm.ClassFile.FieldType.int)) ∈ lw_all := lw_g (lw_at lw_m8 156 rfl) rfl
theorem q2565 : (Jvm.Cond.castable "TunedHouses" "java/lang/Object") ∈ lw_tbl := lw_at lw_m11 67 rfl
theorem in_X1 : ∀ w ∈ wsX10, w ∈ lw_all := lw_in wsX10 [676, 678, 680, 682, 684, 686, 688, 690, 692, 694, 696, 698, 700, 702, 704, 706, 708, 710, 712, 714, 716, 718, 720, 722, 724, 726] (by decide +kernel) (by decide +kernel)
