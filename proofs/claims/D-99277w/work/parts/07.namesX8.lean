/-! TunedHousesModel -/
set_option maxRecDepth 100000
def RX8 : String := "TunedHousesModel"
def TX8 : u_T := fun k => match k with
  | 0 => ("TunedHousesModel", "thrown", "I", false)
  | 1 => ("TunedHousesModel", "tape", "I", false)
  | 2 => ("TunedHousesModel", "size", "I", false)
  | 3 => ("TunedHousesModel", "place", "I", false)
  | 4 => ("TunedHousesModel", "at", "I", false)
  | 5 => ("TunedHousesModel", "fault", "I", false)
  | 6 => ("TunedHousesModel", "faultAt", "I", false)
  | 7 => ("TunedHousesModel", "clauses", "I", false)
  | 8 => ("TunedHousesModel", "open", "I", false)
  | 9 => ("TunedHousesModel", "fed", "[I", true)
  | 10 => ("TunedHousesModel", "refused", "[I", true)
  | 11 => ("TunedHousesModel", "readTold", "[I", true)
  | 12 => ("TunedHousesModel", "told", "[I", true)
  | 13 => ("TunedHousesModel", "readThing", "[I", true)
  | 14 => ("TunedHousesModel", "thing", "[I", true)
  | 15 => ("TunedHousesModel", "readWish", "[I", true)
  | 16 => ("TunedHousesModel", "wish", "[I", true)
  | 17 => ("TunedHousesModel", "readWall", "[[I", true)
  | 18 => ("TunedHousesModel", "wall", "[[I", true)
  | 19 => ("TunedHousesModel", "readPiano", "[[I", true)
  | 20 => ("TunedHousesModel", "piano", "[[I", true)
  | 21 => ("TunedHousesModel", "lawMany", "I", false)
  | 22 => ("TunedHousesModel", "readLawMany", "I", false)
  | 23 => ("TunedHousesModel", "law", "[[I", true)
  | 24 => ("TunedHousesModel", "readLaw", "[[I", true)
  | 25 => ("TunedHousesModel", "line", "[[I", true)
  | 26 => ("TunedHousesModel", "readLine", "[[I", true)
  | 27 => ("TunedHousesModel", "stack", "[I", true)
  | 28 => ("TunedHousesModel", "known", "[I", true)
  | 29 => ("TunedHousesModel", "step", "[[I", true)
  | 30 => ("TunedHousesModel", "steps", "I", false)
  | 31 => ("TunedHousesModel", "now", "[I", true)
  | 32 => ("TunedHousesModel", "trial", "[I", true)
  | 33 => ("TunedHousesModel", "brought", "[I", true)
  | 34 => ("TunedHousesModel", "before", "[[I", true)
  | 35 => ("TunedHousesModel", "kept", "[[I", true)
  | 36 => ("TunedHousesModel", "lines", "I", false)
  | 37 => ("TunedHousesModel", "works", "I", false)
  | 38 => ("TunedHousesModel", "refusedSteps", "I", false)
  | 39 => ("TunedHousesModel", "images", "I", false)
  | 40 => ("TunedHousesModel", "spot", "I", false)
  | 41 => ("TunedHousesModel", "begun", "I", false)
  | 42 => ("TunedHousesModel", "doneSteps", "I", false)
  | 43 => ("TunedHousesModel", "bestAt", "[I", true)
  | 44 => ("TunedHousesModel", "mostWishes", "I", false)
  | 45 => ("TunedHousesModel", "heard", "[I", true)
  | 46 => ("TunedHousesModel", "seen", "[[I", true)
  | 47 => ("TunedHousesModel", "far", "[I", true)
  | 48 => ("TunedHousesModel", "lots", "I", false)
  | _ => ("TunedHousesModel", "putsIn", "I", false)
def tyX8 : Nat → FieldType := fun k => match k with
  | 0 => .int
  | 1 => .int
  | 2 => .int
  | 3 => .int
  | 4 => .int
  | 5 => .int
  | 6 => .int
  | 7 => .int
  | 8 => .int
  | 9 => .array .int
  | 10 => .array .int
  | 11 => .array .int
  | 12 => .array .int
  | 13 => .array .int
  | 14 => .array .int
  | 15 => .array .int
  | 16 => .array .int
  | 17 => .array (.array .int)
  | 18 => .array (.array .int)
  | 19 => .array (.array .int)
  | 20 => .array (.array .int)
  | 21 => .int
  | 22 => .int
  | 23 => .array (.array .int)
  | 24 => .array (.array .int)
  | 25 => .array (.array .int)
  | 26 => .array (.array .int)
  | 27 => .array .int
  | 28 => .array .int
  | 29 => .array (.array .int)
  | 30 => .int
  | 31 => .array .int
  | 32 => .array .int
  | 33 => .array .int
  | 34 => .array (.array .int)
  | 35 => .array (.array .int)
  | 36 => .int
  | 37 => .int
  | 38 => .int
  | 39 => .int
  | 40 => .int
  | 41 => .int
  | 42 => .int
  | 43 => .array .int
  | 44 => .int
  | 45 => .array .int
  | 46 => .array (.array .int)
  | 47 => .array .int
  | 48 => .int
  | _ => .int
abbrev wsX80 : List Cond := u_ws RX8 TX8 50
set_option maxRecDepth 100000 in
theorem nmX8 : ∀ a, a < 50 → ∀ b, b < 50 → a ≠ b → (TX8 a).2.1 ≠ (TX8 b).2.1 := by decide +kernel
set_option maxRecDepth 100000 in
theorem tyX8_ok : ∀ k, k < 50 → parseFieldDescriptor (TX8 k).2.2.1 = some (tyX8 k) := by decide +kernel
abbrev cX8_init : ByteArray := prog_30_method_1_code
def yX8_init : MethodName := ⟨RX8, "<init>", "()V"⟩
def dkwX8_init_12 : List UInt8 := [182, 0, 103, 177]
abbrev dktX8_init_12 : List UInt8 := dkwX8_init_12 ++ []
def dkwX8_init_11 : List UInt8 := [16, 61, 16, 100, 197, 0, 38, 2, 181, 0, 94, 42, 16, 8, 188, 10, 181, 0, 97, 42, 182, 0, 100, 42]
abbrev dktX8_init_11 : List UInt8 := dkwX8_init_11 ++ dktX8_init_12
def dkwX8_init_10 : List UInt8 := [197, 0, 38, 2, 181, 0, 85, 42, 16, 6, 188, 10, 181, 0, 88, 42, 16, 61, 188, 10, 181, 0, 91, 42]
abbrev dktX8_init_10 : List UInt8 := dkwX8_init_10 ++ dktX8_init_11
def dkwX8_init_9 : List UInt8 := [16, 6, 188, 10, 181, 0, 79, 42, 16, 16, 16, 100, 197, 0, 38, 2, 181, 0, 82, 42, 6, 17, 6, 165]
abbrev dktX8_init_9 : List UInt8 := dkwX8_init_9 ++ dktX8_init_10
def dkwX8_init_8 : List UInt8 := [197, 0, 38, 2, 181, 0, 70, 42, 16, 100, 188, 10, 181, 0, 73, 42, 16, 100, 188, 10, 181, 0, 76, 42]
abbrev dktX8_init_8 : List UInt8 := dkwX8_init_8 ++ dktX8_init_9
def dkwX8_init_7 : List UInt8 := [181, 0, 61, 42, 17, 0, 160, 188, 10, 181, 0, 64, 42, 16, 8, 188, 10, 181, 0, 67, 42, 16, 80, 7]
abbrev dktX8_init_7 : List UInt8 := dkwX8_init_7 ++ dktX8_init_8
def dkwX8_init_6 : List UInt8 := [181, 0, 55, 42, 16, 6, 5, 197, 0, 38, 2, 181, 0, 58, 42, 16, 6, 5, 197, 0, 38, 2]
abbrev dktX8_init_6 : List UInt8 := dkwX8_init_6 ++ dktX8_init_7
def dkwX8_init_5 : List UInt8 := [181, 0, 49, 42, 17, 0, 160, 5, 197, 0, 38, 2, 181, 0, 52, 42, 17, 0, 160, 5, 197, 0, 38, 2]
abbrev dktX8_init_5 : List UInt8 := dkwX8_init_5 ++ dktX8_init_6
def dkwX8_init_4 : List UInt8 := [181, 0, 43, 42, 16, 6, 5, 197, 0, 38, 2, 181, 0, 46, 42, 16, 6, 5, 197, 0, 38, 2]
abbrev dktX8_init_4 : List UInt8 := dkwX8_init_4 ++ dktX8_init_5
def dkwX8_init_3 : List UInt8 := [181, 0, 35, 42, 16, 12, 5, 197, 0, 38, 2, 181, 0, 40, 42, 16, 12, 5, 197, 0, 38, 2]
abbrev dktX8_init_3 : List UInt8 := dkwX8_init_3 ++ dktX8_init_4
def dkwX8_init_2 : List UInt8 := [181, 0, 26, 42, 16, 8, 188, 10, 181, 0, 29, 42, 16, 8, 188, 10, 181, 0, 32, 42, 16, 8, 188, 10]
abbrev dktX8_init_2 : List UInt8 := dkwX8_init_2 ++ dktX8_init_3
def dkwX8_init_1 : List UInt8 := [181, 0, 17, 42, 7, 188, 10, 181, 0, 20, 42, 7, 188, 10, 181, 0, 23, 42, 16, 8, 188, 10]
abbrev dktX8_init_1 : List UInt8 := dkwX8_init_1 ++ dktX8_init_2
def dkwX8_init_0 : List UInt8 := [42, 183, 0, 1, 42, 2, 181, 0, 9, 42, 17, 2, 88, 188, 10, 181, 0, 13, 42, 5, 188, 10]
abbrev dktX8_init_0 : List UInt8 := dkwX8_init_0 ++ dktX8_init_1
theorem dksX8_init_0 : cX8_init.data.toList.drop 0 = dktX8_init_0 := by decide +kernel
theorem dksX8_init_1 : cX8_init.data.toList.drop 22 = dktX8_init_1 := dk_seg dksX8_init_0 22 rfl rfl
theorem dksX8_init_2 : cX8_init.data.toList.drop 44 = dktX8_init_2 := dk_seg dksX8_init_1 22 rfl rfl
theorem dksX8_init_3 : cX8_init.data.toList.drop 68 = dktX8_init_3 := dk_seg dksX8_init_2 24 rfl rfl
theorem dksX8_init_4 : cX8_init.data.toList.drop 90 = dktX8_init_4 := dk_seg dksX8_init_3 22 rfl rfl
theorem dksX8_init_5 : cX8_init.data.toList.drop 112 = dktX8_init_5 := dk_seg dksX8_init_4 22 rfl rfl
theorem dksX8_init_6 : cX8_init.data.toList.drop 136 = dktX8_init_6 := dk_seg dksX8_init_5 24 rfl rfl
theorem dksX8_init_7 : cX8_init.data.toList.drop 158 = dktX8_init_7 := dk_seg dksX8_init_6 22 rfl rfl
theorem dksX8_init_8 : cX8_init.data.toList.drop 182 = dktX8_init_8 := dk_seg dksX8_init_7 24 rfl rfl
theorem dksX8_init_9 : cX8_init.data.toList.drop 206 = dktX8_init_9 := dk_seg dksX8_init_8 24 rfl rfl
theorem dksX8_init_10 : cX8_init.data.toList.drop 230 = dktX8_init_10 := dk_seg dksX8_init_9 24 rfl rfl
theorem dksX8_init_11 : cX8_init.data.toList.drop 254 = dktX8_init_11 := dk_seg dksX8_init_10 24 rfl rfl
theorem dksX8_init_12 : cX8_init.data.toList.drop 278 = dktX8_init_12 := dk_seg dksX8_init_11 24 rfl rfl
theorem dX8_init_0 : decode cX8_init 0 = .ok (.aload_n 0, 1) := dk_42 (dk_at dksX8_init_0 0 rfl rfl)
theorem dX8_init_1 : decode cX8_init 1 = .ok (.invokespecial 1, 3) := dk_183 0 1 (dk_at dksX8_init_0 1 rfl rfl)
theorem dX8_init_4 : decode cX8_init 4 = .ok (.aload_n 0, 1) := dk_42 (dk_at dksX8_init_0 4 rfl rfl)
theorem dX8_init_5 : decode cX8_init 5 = .ok (.iconst (-1), 1) := dk_2 (dk_at dksX8_init_0 5 rfl rfl)
theorem dX8_init_6 : decode cX8_init 6 = .ok (.putfield 9, 3) := dk_181 0 9 (dk_at dksX8_init_0 6 rfl rfl)
theorem dX8_init_9 : decode cX8_init 9 = .ok (.aload_n 0, 1) := dk_42 (dk_at dksX8_init_0 9 rfl rfl)
theorem dX8_init_10 : decode cX8_init 10 = .ok (.sipush 600, 3) := dk_17 2 88 (dk_at dksX8_init_0 10 rfl rfl)
theorem dX8_init_13 : decode cX8_init 13 = .ok (.newarray .int, 2) := dk_188_10 (dk_at dksX8_init_0 13 rfl rfl)
theorem dX8_init_15 : decode cX8_init 15 = .ok (.putfield 13, 3) := dk_181 0 13 (dk_at dksX8_init_0 15 rfl rfl)
theorem dX8_init_18 : decode cX8_init 18 = .ok (.aload_n 0, 1) := dk_42 (dk_at dksX8_init_0 18 rfl rfl)
theorem dX8_init_19 : decode cX8_init 19 = .ok (.iconst 2, 1) := dk_5 (dk_at dksX8_init_0 19 rfl rfl)
theorem dX8_init_20 : decode cX8_init 20 = .ok (.newarray .int, 2) := dk_188_10 (dk_at dksX8_init_0 20 rfl rfl)
theorem dX8_init_22 : decode cX8_init 22 = .ok (.putfield 17, 3) := dk_181 0 17 (dk_at dksX8_init_1 0 rfl rfl)
theorem dX8_init_25 : decode cX8_init 25 = .ok (.aload_n 0, 1) := dk_42 (dk_at dksX8_init_1 3 rfl rfl)
theorem dX8_init_26 : decode cX8_init 26 = .ok (.iconst 4, 1) := dk_7 (dk_at dksX8_init_1 4 rfl rfl)
theorem dX8_init_27 : decode cX8_init 27 = .ok (.newarray .int, 2) := dk_188_10 (dk_at dksX8_init_1 5 rfl rfl)
theorem dX8_init_29 : decode cX8_init 29 = .ok (.putfield 20, 3) := dk_181 0 20 (dk_at dksX8_init_1 7 rfl rfl)
theorem dX8_init_32 : decode cX8_init 32 = .ok (.aload_n 0, 1) := dk_42 (dk_at dksX8_init_1 10 rfl rfl)
theorem dX8_init_33 : decode cX8_init 33 = .ok (.iconst 4, 1) := dk_7 (dk_at dksX8_init_1 11 rfl rfl)
theorem dX8_init_34 : decode cX8_init 34 = .ok (.newarray .int, 2) := dk_188_10 (dk_at dksX8_init_1 12 rfl rfl)
theorem dX8_init_36 : decode cX8_init 36 = .ok (.putfield 23, 3) := dk_181 0 23 (dk_at dksX8_init_1 14 rfl rfl)
theorem dX8_init_39 : decode cX8_init 39 = .ok (.aload_n 0, 1) := dk_42 (dk_at dksX8_init_1 17 rfl rfl)
theorem dX8_init_40 : decode cX8_init 40 = .ok (.bipush 8, 2) := dk_16 8 (dk_at dksX8_init_1 18 rfl rfl)
theorem dX8_init_42 : decode cX8_init 42 = .ok (.newarray .int, 2) := dk_188_10 (dk_at dksX8_init_1 20 rfl rfl)
theorem dX8_init_44 : decode cX8_init 44 = .ok (.putfield 26, 3) := dk_181 0 26 (dk_at dksX8_init_2 0 rfl rfl)
theorem dX8_init_47 : decode cX8_init 47 = .ok (.aload_n 0, 1) := dk_42 (dk_at dksX8_init_2 3 rfl rfl)
theorem dX8_init_48 : decode cX8_init 48 = .ok (.bipush 8, 2) := dk_16 8 (dk_at dksX8_init_2 4 rfl rfl)
theorem dX8_init_50 : decode cX8_init 50 = .ok (.newarray .int, 2) := dk_188_10 (dk_at dksX8_init_2 6 rfl rfl)
theorem dX8_init_52 : decode cX8_init 52 = .ok (.putfield 29, 3) := dk_181 0 29 (dk_at dksX8_init_2 8 rfl rfl)
theorem dX8_init_55 : decode cX8_init 55 = .ok (.aload_n 0, 1) := dk_42 (dk_at dksX8_init_2 11 rfl rfl)
theorem dX8_init_56 : decode cX8_init 56 = .ok (.bipush 8, 2) := dk_16 8 (dk_at dksX8_init_2 12 rfl rfl)
theorem dX8_init_58 : decode cX8_init 58 = .ok (.newarray .int, 2) := dk_188_10 (dk_at dksX8_init_2 14 rfl rfl)
theorem dX8_init_60 : decode cX8_init 60 = .ok (.putfield 32, 3) := dk_181 0 32 (dk_at dksX8_init_2 16 rfl rfl)
theorem dX8_init_63 : decode cX8_init 63 = .ok (.aload_n 0, 1) := dk_42 (dk_at dksX8_init_2 19 rfl rfl)
theorem dX8_init_64 : decode cX8_init 64 = .ok (.bipush 8, 2) := dk_16 8 (dk_at dksX8_init_2 20 rfl rfl)
theorem dX8_init_66 : decode cX8_init 66 = .ok (.newarray .int, 2) := dk_188_10 (dk_at dksX8_init_2 22 rfl rfl)
theorem dX8_init_68 : decode cX8_init 68 = .ok (.putfield 35, 3) := dk_181 0 35 (dk_at dksX8_init_3 0 rfl rfl)
theorem dX8_init_71 : decode cX8_init 71 = .ok (.aload_n 0, 1) := dk_42 (dk_at dksX8_init_3 3 rfl rfl)
theorem dX8_init_72 : decode cX8_init 72 = .ok (.bipush 12, 2) := dk_16 12 (dk_at dksX8_init_3 4 rfl rfl)
theorem dX8_init_74 : decode cX8_init 74 = .ok (.iconst 2, 1) := dk_5 (dk_at dksX8_init_3 6 rfl rfl)
theorem dX8_init_75 : decode cX8_init 75 = .ok (.multianewarray 38 2, 4) := by decide +kernel
theorem dX8_init_79 : decode cX8_init 79 = .ok (.putfield 40, 3) := dk_181 0 40 (dk_at dksX8_init_3 11 rfl rfl)
theorem dX8_init_82 : decode cX8_init 82 = .ok (.aload_n 0, 1) := dk_42 (dk_at dksX8_init_3 14 rfl rfl)
theorem dX8_init_83 : decode cX8_init 83 = .ok (.bipush 12, 2) := dk_16 12 (dk_at dksX8_init_3 15 rfl rfl)
theorem dX8_init_85 : decode cX8_init 85 = .ok (.iconst 2, 1) := dk_5 (dk_at dksX8_init_3 17 rfl rfl)
theorem dX8_init_86 : decode cX8_init 86 = .ok (.multianewarray 38 2, 4) := by decide +kernel
theorem dX8_init_90 : decode cX8_init 90 = .ok (.putfield 43, 3) := dk_181 0 43 (dk_at dksX8_init_4 0 rfl rfl)
theorem dX8_init_93 : decode cX8_init 93 = .ok (.aload_n 0, 1) := dk_42 (dk_at dksX8_init_4 3 rfl rfl)
theorem dX8_init_94 : decode cX8_init 94 = .ok (.bipush 6, 2) := dk_16 6 (dk_at dksX8_init_4 4 rfl rfl)
theorem dX8_init_96 : decode cX8_init 96 = .ok (.iconst 2, 1) := dk_5 (dk_at dksX8_init_4 6 rfl rfl)
theorem dX8_init_97 : decode cX8_init 97 = .ok (.multianewarray 38 2, 4) := by decide +kernel
theorem dX8_init_101 : decode cX8_init 101 = .ok (.putfield 46, 3) := dk_181 0 46 (dk_at dksX8_init_4 11 rfl rfl)
theorem dX8_init_104 : decode cX8_init 104 = .ok (.aload_n 0, 1) := dk_42 (dk_at dksX8_init_4 14 rfl rfl)
theorem dX8_init_105 : decode cX8_init 105 = .ok (.bipush 6, 2) := dk_16 6 (dk_at dksX8_init_4 15 rfl rfl)
theorem dX8_init_107 : decode cX8_init 107 = .ok (.iconst 2, 1) := dk_5 (dk_at dksX8_init_4 17 rfl rfl)
theorem dX8_init_108 : decode cX8_init 108 = .ok (.multianewarray 38 2, 4) := by decide +kernel
theorem dX8_init_112 : decode cX8_init 112 = .ok (.putfield 49, 3) := dk_181 0 49 (dk_at dksX8_init_5 0 rfl rfl)
theorem dX8_init_115 : decode cX8_init 115 = .ok (.aload_n 0, 1) := dk_42 (dk_at dksX8_init_5 3 rfl rfl)
theorem dX8_init_116 : decode cX8_init 116 = .ok (.sipush 160, 3) := dk_17 0 160 (dk_at dksX8_init_5 4 rfl rfl)
theorem dX8_init_119 : decode cX8_init 119 = .ok (.iconst 2, 1) := dk_5 (dk_at dksX8_init_5 7 rfl rfl)
theorem dX8_init_120 : decode cX8_init 120 = .ok (.multianewarray 38 2, 4) := by decide +kernel
theorem dX8_init_124 : decode cX8_init 124 = .ok (.putfield 52, 3) := dk_181 0 52 (dk_at dksX8_init_5 12 rfl rfl)
theorem dX8_init_127 : decode cX8_init 127 = .ok (.aload_n 0, 1) := dk_42 (dk_at dksX8_init_5 15 rfl rfl)
theorem dX8_init_128 : decode cX8_init 128 = .ok (.sipush 160, 3) := dk_17 0 160 (dk_at dksX8_init_5 16 rfl rfl)
theorem dX8_init_131 : decode cX8_init 131 = .ok (.iconst 2, 1) := dk_5 (dk_at dksX8_init_5 19 rfl rfl)
theorem dX8_init_132 : decode cX8_init 132 = .ok (.multianewarray 38 2, 4) := by decide +kernel
theorem dX8_init_136 : decode cX8_init 136 = .ok (.putfield 55, 3) := dk_181 0 55 (dk_at dksX8_init_6 0 rfl rfl)
theorem dX8_init_139 : decode cX8_init 139 = .ok (.aload_n 0, 1) := dk_42 (dk_at dksX8_init_6 3 rfl rfl)
theorem dX8_init_140 : decode cX8_init 140 = .ok (.bipush 6, 2) := dk_16 6 (dk_at dksX8_init_6 4 rfl rfl)
theorem dX8_init_142 : decode cX8_init 142 = .ok (.iconst 2, 1) := dk_5 (dk_at dksX8_init_6 6 rfl rfl)
theorem dX8_init_143 : decode cX8_init 143 = .ok (.multianewarray 38 2, 4) := by decide +kernel
theorem dX8_init_147 : decode cX8_init 147 = .ok (.putfield 58, 3) := dk_181 0 58 (dk_at dksX8_init_6 11 rfl rfl)
theorem dX8_init_150 : decode cX8_init 150 = .ok (.aload_n 0, 1) := dk_42 (dk_at dksX8_init_6 14 rfl rfl)
theorem dX8_init_151 : decode cX8_init 151 = .ok (.bipush 6, 2) := dk_16 6 (dk_at dksX8_init_6 15 rfl rfl)
theorem dX8_init_153 : decode cX8_init 153 = .ok (.iconst 2, 1) := dk_5 (dk_at dksX8_init_6 17 rfl rfl)
theorem dX8_init_154 : decode cX8_init 154 = .ok (.multianewarray 38 2, 4) := by decide +kernel
theorem dX8_init_158 : decode cX8_init 158 = .ok (.putfield 61, 3) := dk_181 0 61 (dk_at dksX8_init_7 0 rfl rfl)
theorem dX8_init_161 : decode cX8_init 161 = .ok (.aload_n 0, 1) := dk_42 (dk_at dksX8_init_7 3 rfl rfl)
theorem dX8_init_162 : decode cX8_init 162 = .ok (.sipush 160, 3) := dk_17 0 160 (dk_at dksX8_init_7 4 rfl rfl)
theorem dX8_init_165 : decode cX8_init 165 = .ok (.newarray .int, 2) := dk_188_10 (dk_at dksX8_init_7 7 rfl rfl)
theorem dX8_init_167 : decode cX8_init 167 = .ok (.putfield 64, 3) := dk_181 0 64 (dk_at dksX8_init_7 9 rfl rfl)
theorem dX8_init_170 : decode cX8_init 170 = .ok (.aload_n 0, 1) := dk_42 (dk_at dksX8_init_7 12 rfl rfl)
theorem dX8_init_171 : decode cX8_init 171 = .ok (.bipush 8, 2) := dk_16 8 (dk_at dksX8_init_7 13 rfl rfl)
theorem dX8_init_173 : decode cX8_init 173 = .ok (.newarray .int, 2) := dk_188_10 (dk_at dksX8_init_7 15 rfl rfl)
theorem dX8_init_175 : decode cX8_init 175 = .ok (.putfield 67, 3) := dk_181 0 67 (dk_at dksX8_init_7 17 rfl rfl)
theorem dX8_init_178 : decode cX8_init 178 = .ok (.aload_n 0, 1) := dk_42 (dk_at dksX8_init_7 20 rfl rfl)
theorem dX8_init_179 : decode cX8_init 179 = .ok (.bipush 80, 2) := dk_16 80 (dk_at dksX8_init_7 21 rfl rfl)
theorem dX8_init_181 : decode cX8_init 181 = .ok (.iconst 4, 1) := dk_7 (dk_at dksX8_init_7 23 rfl rfl)
theorem dX8_init_182 : decode cX8_init 182 = .ok (.multianewarray 38 2, 4) := by decide +kernel
theorem dX8_init_186 : decode cX8_init 186 = .ok (.putfield 70, 3) := dk_181 0 70 (dk_at dksX8_init_8 4 rfl rfl)
theorem dX8_init_189 : decode cX8_init 189 = .ok (.aload_n 0, 1) := dk_42 (dk_at dksX8_init_8 7 rfl rfl)
theorem dX8_init_190 : decode cX8_init 190 = .ok (.bipush 100, 2) := dk_16 100 (dk_at dksX8_init_8 8 rfl rfl)
theorem dX8_init_192 : decode cX8_init 192 = .ok (.newarray .int, 2) := dk_188_10 (dk_at dksX8_init_8 10 rfl rfl)
theorem dX8_init_194 : decode cX8_init 194 = .ok (.putfield 73, 3) := dk_181 0 73 (dk_at dksX8_init_8 12 rfl rfl)
theorem dX8_init_197 : decode cX8_init 197 = .ok (.aload_n 0, 1) := dk_42 (dk_at dksX8_init_8 15 rfl rfl)
theorem dX8_init_198 : decode cX8_init 198 = .ok (.bipush 100, 2) := dk_16 100 (dk_at dksX8_init_8 16 rfl rfl)
theorem dX8_init_200 : decode cX8_init 200 = .ok (.newarray .int, 2) := dk_188_10 (dk_at dksX8_init_8 18 rfl rfl)
theorem dX8_init_202 : decode cX8_init 202 = .ok (.putfield 76, 3) := dk_181 0 76 (dk_at dksX8_init_8 20 rfl rfl)
theorem dX8_init_205 : decode cX8_init 205 = .ok (.aload_n 0, 1) := dk_42 (dk_at dksX8_init_8 23 rfl rfl)
theorem dX8_init_206 : decode cX8_init 206 = .ok (.bipush 6, 2) := dk_16 6 (dk_at dksX8_init_9 0 rfl rfl)
theorem dX8_init_208 : decode cX8_init 208 = .ok (.newarray .int, 2) := dk_188_10 (dk_at dksX8_init_9 2 rfl rfl)
theorem dX8_init_210 : decode cX8_init 210 = .ok (.putfield 79, 3) := dk_181 0 79 (dk_at dksX8_init_9 4 rfl rfl)
theorem dX8_init_213 : decode cX8_init 213 = .ok (.aload_n 0, 1) := dk_42 (dk_at dksX8_init_9 7 rfl rfl)
theorem dX8_init_214 : decode cX8_init 214 = .ok (.bipush 16, 2) := dk_16 16 (dk_at dksX8_init_9 8 rfl rfl)
theorem dX8_init_216 : decode cX8_init 216 = .ok (.bipush 100, 2) := dk_16 100 (dk_at dksX8_init_9 10 rfl rfl)
theorem dX8_init_218 : decode cX8_init 218 = .ok (.multianewarray 38 2, 4) := by decide +kernel
theorem dX8_init_222 : decode cX8_init 222 = .ok (.putfield 82, 3) := dk_181 0 82 (dk_at dksX8_init_9 16 rfl rfl)
theorem dX8_init_225 : decode cX8_init 225 = .ok (.aload_n 0, 1) := dk_42 (dk_at dksX8_init_9 19 rfl rfl)
theorem dX8_init_226 : decode cX8_init 226 = .ok (.iconst 3, 1) := dk_6 (dk_at dksX8_init_9 20 rfl rfl)
theorem dX8_init_227 : decode cX8_init 227 = .ok (.sipush 1701, 3) := dk_17 6 165 (dk_at dksX8_init_9 21 rfl rfl)
theorem dX8_init_230 : decode cX8_init 230 = .ok (.multianewarray 38 2, 4) := by decide +kernel
theorem dX8_init_234 : decode cX8_init 234 = .ok (.putfield 85, 3) := dk_181 0 85 (dk_at dksX8_init_10 4 rfl rfl)
theorem dX8_init_237 : decode cX8_init 237 = .ok (.aload_n 0, 1) := dk_42 (dk_at dksX8_init_10 7 rfl rfl)
theorem dX8_init_238 : decode cX8_init 238 = .ok (.bipush 6, 2) := dk_16 6 (dk_at dksX8_init_10 8 rfl rfl)
theorem dX8_init_240 : decode cX8_init 240 = .ok (.newarray .int, 2) := dk_188_10 (dk_at dksX8_init_10 10 rfl rfl)
theorem dX8_init_242 : decode cX8_init 242 = .ok (.putfield 88, 3) := dk_181 0 88 (dk_at dksX8_init_10 12 rfl rfl)
theorem dX8_init_245 : decode cX8_init 245 = .ok (.aload_n 0, 1) := dk_42 (dk_at dksX8_init_10 15 rfl rfl)
theorem dX8_init_246 : decode cX8_init 246 = .ok (.bipush 61, 2) := dk_16 61 (dk_at dksX8_init_10 16 rfl rfl)
theorem dX8_init_248 : decode cX8_init 248 = .ok (.newarray .int, 2) := dk_188_10 (dk_at dksX8_init_10 18 rfl rfl)
theorem dX8_init_250 : decode cX8_init 250 = .ok (.putfield 91, 3) := dk_181 0 91 (dk_at dksX8_init_10 20 rfl rfl)
theorem dX8_init_253 : decode cX8_init 253 = .ok (.aload_n 0, 1) := dk_42 (dk_at dksX8_init_10 23 rfl rfl)
theorem dX8_init_254 : decode cX8_init 254 = .ok (.bipush 61, 2) := dk_16 61 (dk_at dksX8_init_11 0 rfl rfl)
theorem dX8_init_256 : decode cX8_init 256 = .ok (.bipush 100, 2) := dk_16 100 (dk_at dksX8_init_11 2 rfl rfl)
theorem dX8_init_258 : decode cX8_init 258 = .ok (.multianewarray 38 2, 4) := by decide +kernel
theorem dX8_init_262 : decode cX8_init 262 = .ok (.putfield 94, 3) := dk_181 0 94 (dk_at dksX8_init_11 8 rfl rfl)
theorem dX8_init_265 : decode cX8_init 265 = .ok (.aload_n 0, 1) := dk_42 (dk_at dksX8_init_11 11 rfl rfl)
theorem dX8_init_266 : decode cX8_init 266 = .ok (.bipush 8, 2) := dk_16 8 (dk_at dksX8_init_11 12 rfl rfl)
theorem dX8_init_268 : decode cX8_init 268 = .ok (.newarray .int, 2) := dk_188_10 (dk_at dksX8_init_11 14 rfl rfl)
theorem dX8_init_270 : decode cX8_init 270 = .ok (.putfield 97, 3) := dk_181 0 97 (dk_at dksX8_init_11 16 rfl rfl)
theorem dX8_init_273 : decode cX8_init 273 = .ok (.aload_n 0, 1) := dk_42 (dk_at dksX8_init_11 19 rfl rfl)
theorem dX8_init_274 : decode cX8_init 274 = .ok (.invokevirtual 100, 3) := dk_182 0 100 (dk_at dksX8_init_11 20 rfl rfl)
theorem dX8_init_277 : decode cX8_init 277 = .ok (.aload_n 0, 1) := dk_42 (dk_at dksX8_init_11 23 rfl rfl)
theorem dX8_init_278 : decode cX8_init 278 = .ok (.invokevirtual 103, 3) := dk_182 0 103 (dk_at dksX8_init_12 0 rfl rfl)
theorem dX8_init_281 : decode cX8_init 281 = .ok (.return_, 1) := dk_177 (dk_at dksX8_init_12 3 rfl rfl)
abbrev cX8_tellsNothing : ByteArray := prog_30_method_2_code
def yX8_tellsNothing : MethodName := ⟨RX8, "tellsNothing", "()V"⟩
def dkwX8_tellsNothing_2 : List UInt8 := [167, 255, 240, 177]
abbrev dktX8_tellsNothing_2 : List UInt8 := dkwX8_tellsNothing_2 ++ []
def dkwX8_tellsNothing_1 : List UInt8 := [6, 16, 12, 79, 3, 60, 27, 16, 8, 162, 0, 16, 42, 180, 0, 32, 27, 2, 79, 132, 1, 1]
abbrev dktX8_tellsNothing_1 : List UInt8 := dkwX8_tellsNothing_1 ++ dktX8_tellsNothing_2
def dkwX8_tellsNothing_0 : List UInt8 := [3, 60, 27, 6, 162, 0, 16, 42, 180, 0, 20, 27, 3, 79, 132, 1, 1, 167, 255, 241, 42, 180, 0, 20]
abbrev dktX8_tellsNothing_0 : List UInt8 := dkwX8_tellsNothing_0 ++ dktX8_tellsNothing_1
theorem dksX8_tellsNothing_0 : cX8_tellsNothing.data.toList.drop 0 = dktX8_tellsNothing_0 := by decide +kernel
theorem dksX8_tellsNothing_1 : cX8_tellsNothing.data.toList.drop 24 = dktX8_tellsNothing_1 := dk_seg dksX8_tellsNothing_0 24 rfl rfl
theorem dksX8_tellsNothing_2 : cX8_tellsNothing.data.toList.drop 46 = dktX8_tellsNothing_2 := dk_seg dksX8_tellsNothing_1 22 rfl rfl
theorem dX8_tellsNothing_0 : decode cX8_tellsNothing 0 = .ok (.iconst 0, 1) := dk_3 (dk_at dksX8_tellsNothing_0 0 rfl rfl)
theorem dX8_tellsNothing_1 : decode cX8_tellsNothing 1 = .ok (.istore_n 1, 1) := dk_60 (dk_at dksX8_tellsNothing_0 1 rfl rfl)
theorem dX8_tellsNothing_2 : decode cX8_tellsNothing 2 = .ok (.iload_n 1, 1) := dk_27 (dk_at dksX8_tellsNothing_0 2 rfl rfl)
theorem dX8_tellsNothing_3 : decode cX8_tellsNothing 3 = .ok (.iconst 3, 1) := dk_6 (dk_at dksX8_tellsNothing_0 3 rfl rfl)
theorem dX8_tellsNothing_4 : decode cX8_tellsNothing 4 = .ok (.if_icmp .ge 16, 3) := dk_162 0 16 (dk_at dksX8_tellsNothing_0 4 rfl rfl)
theorem dX8_tellsNothing_7 : decode cX8_tellsNothing 7 = .ok (.aload_n 0, 1) := dk_42 (dk_at dksX8_tellsNothing_0 7 rfl rfl)
theorem dX8_tellsNothing_8 : decode cX8_tellsNothing 8 = .ok (.getfield 20, 3) := dk_180 0 20 (dk_at dksX8_tellsNothing_0 8 rfl rfl)
theorem dX8_tellsNothing_11 : decode cX8_tellsNothing 11 = .ok (.iload_n 1, 1) := dk_27 (dk_at dksX8_tellsNothing_0 11 rfl rfl)
theorem dX8_tellsNothing_12 : decode cX8_tellsNothing 12 = .ok (.iconst 0, 1) := dk_3 (dk_at dksX8_tellsNothing_0 12 rfl rfl)
theorem dX8_tellsNothing_13 : decode cX8_tellsNothing 13 = .ok (.iastore, 1) := dk_79 (dk_at dksX8_tellsNothing_0 13 rfl rfl)
theorem dX8_tellsNothing_14 : decode cX8_tellsNothing 14 = .ok (.iinc 1 1, 3) := dk_132 1 1 (dk_at dksX8_tellsNothing_0 14 rfl rfl)
theorem dX8_tellsNothing_17 : decode cX8_tellsNothing 17 = .ok (.goto (-15), 3) := dk_167 255 241 (dk_at dksX8_tellsNothing_0 17 rfl rfl)
theorem dX8_tellsNothing_20 : decode cX8_tellsNothing 20 = .ok (.aload_n 0, 1) := dk_42 (dk_at dksX8_tellsNothing_0 20 rfl rfl)
theorem dX8_tellsNothing_21 : decode cX8_tellsNothing 21 = .ok (.getfield 20, 3) := dk_180 0 20 (dk_at dksX8_tellsNothing_0 21 rfl rfl)
theorem dX8_tellsNothing_24 : decode cX8_tellsNothing 24 = .ok (.iconst 3, 1) := dk_6 (dk_at dksX8_tellsNothing_1 0 rfl rfl)
theorem dX8_tellsNothing_25 : decode cX8_tellsNothing 25 = .ok (.bipush 12, 2) := dk_16 12 (dk_at dksX8_tellsNothing_1 1 rfl rfl)
theorem dX8_tellsNothing_27 : decode cX8_tellsNothing 27 = .ok (.iastore, 1) := dk_79 (dk_at dksX8_tellsNothing_1 3 rfl rfl)
theorem dX8_tellsNothing_28 : decode cX8_tellsNothing 28 = .ok (.iconst 0, 1) := dk_3 (dk_at dksX8_tellsNothing_1 4 rfl rfl)
theorem dX8_tellsNothing_29 : decode cX8_tellsNothing 29 = .ok (.istore_n 1, 1) := dk_60 (dk_at dksX8_tellsNothing_1 5 rfl rfl)
theorem dX8_tellsNothing_30 : decode cX8_tellsNothing 30 = .ok (.iload_n 1, 1) := dk_27 (dk_at dksX8_tellsNothing_1 6 rfl rfl)
theorem dX8_tellsNothing_31 : decode cX8_tellsNothing 31 = .ok (.bipush 8, 2) := dk_16 8 (dk_at dksX8_tellsNothing_1 7 rfl rfl)
theorem dX8_tellsNothing_33 : decode cX8_tellsNothing 33 = .ok (.if_icmp .ge 16, 3) := dk_162 0 16 (dk_at dksX8_tellsNothing_1 9 rfl rfl)
theorem dX8_tellsNothing_36 : decode cX8_tellsNothing 36 = .ok (.aload_n 0, 1) := dk_42 (dk_at dksX8_tellsNothing_1 12 rfl rfl)
theorem dX8_tellsNothing_37 : decode cX8_tellsNothing 37 = .ok (.getfield 32, 3) := dk_180 0 32 (dk_at dksX8_tellsNothing_1 13 rfl rfl)
theorem dX8_tellsNothing_40 : decode cX8_tellsNothing 40 = .ok (.iload_n 1, 1) := dk_27 (dk_at dksX8_tellsNothing_1 16 rfl rfl)
theorem dX8_tellsNothing_41 : decode cX8_tellsNothing 41 = .ok (.iconst (-1), 1) := dk_2 (dk_at dksX8_tellsNothing_1 17 rfl rfl)
theorem dX8_tellsNothing_42 : decode cX8_tellsNothing 42 = .ok (.iastore, 1) := dk_79 (dk_at dksX8_tellsNothing_1 18 rfl rfl)
theorem dX8_tellsNothing_43 : decode cX8_tellsNothing 43 = .ok (.iinc 1 1, 3) := dk_132 1 1 (dk_at dksX8_tellsNothing_1 19 rfl rfl)
theorem dX8_tellsNothing_46 : decode cX8_tellsNothing 46 = .ok (.goto (-16), 3) := dk_167 255 240 (dk_at dksX8_tellsNothing_2 0 rfl rfl)
theorem dX8_tellsNothing_49 : decode cX8_tellsNothing 49 = .ok (.return_, 1) := dk_177 (dk_at dksX8_tellsNothing_2 3 rfl rfl)
abbrev cX8_beginsAnew : ByteArray := prog_30_method_33_code
def yX8_beginsAnew : MethodName := ⟨RX8, "beginsAnew", "()V"⟩
def dkwX8_beginsAnew_8 : List UInt8 := [181, 0, 206, 42, 3, 181, 0, 209, 42, 3, 181, 0, 212, 42, 3, 181, 0, 215, 42, 3, 181, 0, 218, 177]
abbrev dktX8_beginsAnew_8 : List UInt8 := dkwX8_beginsAnew_8 ++ []
def dkwX8_beginsAnew_7 : List UInt8 := [96, 2, 79, 132, 1, 1, 167, 255, 237, 42, 180, 0, 73, 16, 98, 42, 180, 0, 23, 6, 46, 79, 42, 3]
abbrev dktX8_beginsAnew_7 : List UInt8 := dkwX8_beginsAnew_7 ++ dktX8_beginsAnew_8
def dkwX8_beginsAnew_6 : List UInt8 := [42, 180, 0, 23, 5, 46, 184, 0, 202, 3, 60, 27, 16, 6, 162, 0, 19, 42, 180, 0, 73, 16, 80, 27]
abbrev dktX8_beginsAnew_6 : List UInt8 := dkwX8_beginsAnew_6 ++ dktX8_beginsAnew_7
def dkwX8_beginsAnew_5 : List UInt8 := [180, 0, 40, 42, 180, 0, 43, 42, 180, 0, 23, 4, 46, 184, 0, 202, 42, 180, 0, 46, 42, 180, 0, 49]
abbrev dktX8_beginsAnew_5 : List UInt8 := dkwX8_beginsAnew_5 ++ dktX8_beginsAnew_6
def dkwX8_beginsAnew_4 : List UInt8 := [16, 10, 27, 104, 96, 42, 180, 0, 29, 27, 46, 96, 16, 50, 79, 132, 1, 1, 167, 255, 193, 42]
abbrev dktX8_beginsAnew_4 : List UInt8 := dkwX8_beginsAnew_4 ++ dktX8_beginsAnew_5
def dkwX8_beginsAnew_3 : List UInt8 := [27, 42, 180, 0, 32, 27, 46, 79, 27, 42, 180, 0, 23, 3, 46, 162, 0, 23, 42, 180, 0, 73, 3]
abbrev dktX8_beginsAnew_3 : List UInt8 := dkwX8_beginsAnew_3 ++ dktX8_beginsAnew_4
def dkwX8_beginsAnew_2 : List UInt8 := [3, 60, 27, 16, 8, 162, 0, 63, 42, 180, 0, 29, 27, 42, 180, 0, 26, 27, 46, 79, 42, 180, 0, 35]
abbrev dktX8_beginsAnew_2 : List UInt8 := dkwX8_beginsAnew_2 ++ dktX8_beginsAnew_3
def dkwX8_beginsAnew_1 : List UInt8 := [167, 255, 236, 3, 60, 27, 16, 100, 162, 0, 16, 42, 180, 0, 73, 27, 3, 79, 132, 1, 1, 167, 255, 240]
abbrev dktX8_beginsAnew_1 : List UInt8 := dkwX8_beginsAnew_1 ++ dktX8_beginsAnew_2
def dkwX8_beginsAnew_0 : List UInt8 := [3, 60, 27, 7, 162, 0, 21, 42, 180, 0, 23, 27, 42, 180, 0, 20, 27, 46, 79, 132, 1, 1]
abbrev dktX8_beginsAnew_0 : List UInt8 := dkwX8_beginsAnew_0 ++ dktX8_beginsAnew_1
theorem dksX8_beginsAnew_0 : cX8_beginsAnew.data.toList.drop 0 = dktX8_beginsAnew_0 := by decide +kernel
theorem dksX8_beginsAnew_1 : cX8_beginsAnew.data.toList.drop 22 = dktX8_beginsAnew_1 := dk_seg dksX8_beginsAnew_0 22 rfl rfl
theorem dksX8_beginsAnew_2 : cX8_beginsAnew.data.toList.drop 46 = dktX8_beginsAnew_2 := dk_seg dksX8_beginsAnew_1 24 rfl rfl
theorem dksX8_beginsAnew_3 : cX8_beginsAnew.data.toList.drop 70 = dktX8_beginsAnew_3 := dk_seg dksX8_beginsAnew_2 24 rfl rfl
theorem dksX8_beginsAnew_4 : cX8_beginsAnew.data.toList.drop 93 = dktX8_beginsAnew_4 := dk_seg dksX8_beginsAnew_3 23 rfl rfl
theorem dksX8_beginsAnew_5 : cX8_beginsAnew.data.toList.drop 115 = dktX8_beginsAnew_5 := dk_seg dksX8_beginsAnew_4 22 rfl rfl
theorem dksX8_beginsAnew_6 : cX8_beginsAnew.data.toList.drop 139 = dktX8_beginsAnew_6 := dk_seg dksX8_beginsAnew_5 24 rfl rfl
theorem dksX8_beginsAnew_7 : cX8_beginsAnew.data.toList.drop 163 = dktX8_beginsAnew_7 := dk_seg dksX8_beginsAnew_6 24 rfl rfl
theorem dksX8_beginsAnew_8 : cX8_beginsAnew.data.toList.drop 187 = dktX8_beginsAnew_8 := dk_seg dksX8_beginsAnew_7 24 rfl rfl
theorem dX8_beginsAnew_0 : decode cX8_beginsAnew 0 = .ok (.iconst 0, 1) := dk_3 (dk_at dksX8_beginsAnew_0 0 rfl rfl)
theorem dX8_beginsAnew_1 : decode cX8_beginsAnew 1 = .ok (.istore_n 1, 1) := dk_60 (dk_at dksX8_beginsAnew_0 1 rfl rfl)
theorem dX8_beginsAnew_2 : decode cX8_beginsAnew 2 = .ok (.iload_n 1, 1) := dk_27 (dk_at dksX8_beginsAnew_0 2 rfl rfl)
theorem dX8_beginsAnew_3 : decode cX8_beginsAnew 3 = .ok (.iconst 4, 1) := dk_7 (dk_at dksX8_beginsAnew_0 3 rfl rfl)
theorem dX8_beginsAnew_4 : decode cX8_beginsAnew 4 = .ok (.if_icmp .ge 21, 3) := dk_162 0 21 (dk_at dksX8_beginsAnew_0 4 rfl rfl)
theorem dX8_beginsAnew_7 : decode cX8_beginsAnew 7 = .ok (.aload_n 0, 1) := dk_42 (dk_at dksX8_beginsAnew_0 7 rfl rfl)
theorem dX8_beginsAnew_8 : decode cX8_beginsAnew 8 = .ok (.getfield 23, 3) := dk_180 0 23 (dk_at dksX8_beginsAnew_0 8 rfl rfl)
theorem dX8_beginsAnew_11 : decode cX8_beginsAnew 11 = .ok (.iload_n 1, 1) := dk_27 (dk_at dksX8_beginsAnew_0 11 rfl rfl)
theorem dX8_beginsAnew_12 : decode cX8_beginsAnew 12 = .ok (.aload_n 0, 1) := dk_42 (dk_at dksX8_beginsAnew_0 12 rfl rfl)
theorem dX8_beginsAnew_13 : decode cX8_beginsAnew 13 = .ok (.getfield 20, 3) := dk_180 0 20 (dk_at dksX8_beginsAnew_0 13 rfl rfl)
theorem dX8_beginsAnew_16 : decode cX8_beginsAnew 16 = .ok (.iload_n 1, 1) := dk_27 (dk_at dksX8_beginsAnew_0 16 rfl rfl)
theorem dX8_beginsAnew_17 : decode cX8_beginsAnew 17 = .ok (.iaload, 1) := dk_46 (dk_at dksX8_beginsAnew_0 17 rfl rfl)
theorem dX8_beginsAnew_18 : decode cX8_beginsAnew 18 = .ok (.iastore, 1) := dk_79 (dk_at dksX8_beginsAnew_0 18 rfl rfl)
theorem dX8_beginsAnew_19 : decode cX8_beginsAnew 19 = .ok (.iinc 1 1, 3) := dk_132 1 1 (dk_at dksX8_beginsAnew_0 19 rfl rfl)
theorem dX8_beginsAnew_22 : decode cX8_beginsAnew 22 = .ok (.goto (-20), 3) := dk_167 255 236 (dk_at dksX8_beginsAnew_1 0 rfl rfl)
theorem dX8_beginsAnew_25 : decode cX8_beginsAnew 25 = .ok (.iconst 0, 1) := dk_3 (dk_at dksX8_beginsAnew_1 3 rfl rfl)
theorem dX8_beginsAnew_26 : decode cX8_beginsAnew 26 = .ok (.istore_n 1, 1) := dk_60 (dk_at dksX8_beginsAnew_1 4 rfl rfl)
theorem dX8_beginsAnew_27 : decode cX8_beginsAnew 27 = .ok (.iload_n 1, 1) := dk_27 (dk_at dksX8_beginsAnew_1 5 rfl rfl)
theorem dX8_beginsAnew_28 : decode cX8_beginsAnew 28 = .ok (.bipush 100, 2) := dk_16 100 (dk_at dksX8_beginsAnew_1 6 rfl rfl)
theorem dX8_beginsAnew_30 : decode cX8_beginsAnew 30 = .ok (.if_icmp .ge 16, 3) := dk_162 0 16 (dk_at dksX8_beginsAnew_1 8 rfl rfl)
theorem dX8_beginsAnew_33 : decode cX8_beginsAnew 33 = .ok (.aload_n 0, 1) := dk_42 (dk_at dksX8_beginsAnew_1 11 rfl rfl)
theorem dX8_beginsAnew_34 : decode cX8_beginsAnew 34 = .ok (.getfield 73, 3) := dk_180 0 73 (dk_at dksX8_beginsAnew_1 12 rfl rfl)
theorem dX8_beginsAnew_37 : decode cX8_beginsAnew 37 = .ok (.iload_n 1, 1) := dk_27 (dk_at dksX8_beginsAnew_1 15 rfl rfl)
theorem dX8_beginsAnew_38 : decode cX8_beginsAnew 38 = .ok (.iconst 0, 1) := dk_3 (dk_at dksX8_beginsAnew_1 16 rfl rfl)
theorem dX8_beginsAnew_39 : decode cX8_beginsAnew 39 = .ok (.iastore, 1) := dk_79 (dk_at dksX8_beginsAnew_1 17 rfl rfl)
theorem dX8_beginsAnew_40 : decode cX8_beginsAnew 40 = .ok (.iinc 1 1, 3) := dk_132 1 1 (dk_at dksX8_beginsAnew_1 18 rfl rfl)
theorem dX8_beginsAnew_43 : decode cX8_beginsAnew 43 = .ok (.goto (-16), 3) := dk_167 255 240 (dk_at dksX8_beginsAnew_1 21 rfl rfl)
theorem dX8_beginsAnew_46 : decode cX8_beginsAnew 46 = .ok (.iconst 0, 1) := dk_3 (dk_at dksX8_beginsAnew_2 0 rfl rfl)
theorem dX8_beginsAnew_47 : decode cX8_beginsAnew 47 = .ok (.istore_n 1, 1) := dk_60 (dk_at dksX8_beginsAnew_2 1 rfl rfl)
theorem dX8_beginsAnew_48 : decode cX8_beginsAnew 48 = .ok (.iload_n 1, 1) := dk_27 (dk_at dksX8_beginsAnew_2 2 rfl rfl)
theorem dX8_beginsAnew_49 : decode cX8_beginsAnew 49 = .ok (.bipush 8, 2) := dk_16 8 (dk_at dksX8_beginsAnew_2 3 rfl rfl)
theorem dX8_beginsAnew_51 : decode cX8_beginsAnew 51 = .ok (.if_icmp .ge 63, 3) := dk_162 0 63 (dk_at dksX8_beginsAnew_2 5 rfl rfl)
theorem dX8_beginsAnew_54 : decode cX8_beginsAnew 54 = .ok (.aload_n 0, 1) := dk_42 (dk_at dksX8_beginsAnew_2 8 rfl rfl)
theorem dX8_beginsAnew_55 : decode cX8_beginsAnew 55 = .ok (.getfield 29, 3) := dk_180 0 29 (dk_at dksX8_beginsAnew_2 9 rfl rfl)
theorem dX8_beginsAnew_58 : decode cX8_beginsAnew 58 = .ok (.iload_n 1, 1) := dk_27 (dk_at dksX8_beginsAnew_2 12 rfl rfl)
theorem dX8_beginsAnew_59 : decode cX8_beginsAnew 59 = .ok (.aload_n 0, 1) := dk_42 (dk_at dksX8_beginsAnew_2 13 rfl rfl)
theorem dX8_beginsAnew_60 : decode cX8_beginsAnew 60 = .ok (.getfield 26, 3) := dk_180 0 26 (dk_at dksX8_beginsAnew_2 14 rfl rfl)
theorem dX8_beginsAnew_63 : decode cX8_beginsAnew 63 = .ok (.iload_n 1, 1) := dk_27 (dk_at dksX8_beginsAnew_2 17 rfl rfl)
theorem dX8_beginsAnew_64 : decode cX8_beginsAnew 64 = .ok (.iaload, 1) := dk_46 (dk_at dksX8_beginsAnew_2 18 rfl rfl)
theorem dX8_beginsAnew_65 : decode cX8_beginsAnew 65 = .ok (.iastore, 1) := dk_79 (dk_at dksX8_beginsAnew_2 19 rfl rfl)
theorem dX8_beginsAnew_66 : decode cX8_beginsAnew 66 = .ok (.aload_n 0, 1) := dk_42 (dk_at dksX8_beginsAnew_2 20 rfl rfl)
theorem dX8_beginsAnew_67 : decode cX8_beginsAnew 67 = .ok (.getfield 35, 3) := dk_180 0 35 (dk_at dksX8_beginsAnew_2 21 rfl rfl)
theorem dX8_beginsAnew_70 : decode cX8_beginsAnew 70 = .ok (.iload_n 1, 1) := dk_27 (dk_at dksX8_beginsAnew_3 0 rfl rfl)
theorem dX8_beginsAnew_71 : decode cX8_beginsAnew 71 = .ok (.aload_n 0, 1) := dk_42 (dk_at dksX8_beginsAnew_3 1 rfl rfl)
theorem dX8_beginsAnew_72 : decode cX8_beginsAnew 72 = .ok (.getfield 32, 3) := dk_180 0 32 (dk_at dksX8_beginsAnew_3 2 rfl rfl)
theorem dX8_beginsAnew_75 : decode cX8_beginsAnew 75 = .ok (.iload_n 1, 1) := dk_27 (dk_at dksX8_beginsAnew_3 5 rfl rfl)
theorem dX8_beginsAnew_76 : decode cX8_beginsAnew 76 = .ok (.iaload, 1) := dk_46 (dk_at dksX8_beginsAnew_3 6 rfl rfl)
theorem dX8_beginsAnew_77 : decode cX8_beginsAnew 77 = .ok (.iastore, 1) := dk_79 (dk_at dksX8_beginsAnew_3 7 rfl rfl)
theorem dX8_beginsAnew_78 : decode cX8_beginsAnew 78 = .ok (.iload_n 1, 1) := dk_27 (dk_at dksX8_beginsAnew_3 8 rfl rfl)
theorem dX8_beginsAnew_79 : decode cX8_beginsAnew 79 = .ok (.aload_n 0, 1) := dk_42 (dk_at dksX8_beginsAnew_3 9 rfl rfl)
theorem dX8_beginsAnew_80 : decode cX8_beginsAnew 80 = .ok (.getfield 23, 3) := dk_180 0 23 (dk_at dksX8_beginsAnew_3 10 rfl rfl)
theorem dX8_beginsAnew_83 : decode cX8_beginsAnew 83 = .ok (.iconst 0, 1) := dk_3 (dk_at dksX8_beginsAnew_3 13 rfl rfl)
theorem dX8_beginsAnew_84 : decode cX8_beginsAnew 84 = .ok (.iaload, 1) := dk_46 (dk_at dksX8_beginsAnew_3 14 rfl rfl)
theorem dX8_beginsAnew_85 : decode cX8_beginsAnew 85 = .ok (.if_icmp .ge 23, 3) := dk_162 0 23 (dk_at dksX8_beginsAnew_3 15 rfl rfl)
theorem dX8_beginsAnew_88 : decode cX8_beginsAnew 88 = .ok (.aload_n 0, 1) := dk_42 (dk_at dksX8_beginsAnew_3 18 rfl rfl)
theorem dX8_beginsAnew_89 : decode cX8_beginsAnew 89 = .ok (.getfield 73, 3) := dk_180 0 73 (dk_at dksX8_beginsAnew_3 19 rfl rfl)
theorem dX8_beginsAnew_92 : decode cX8_beginsAnew 92 = .ok (.iconst 0, 1) := dk_3 (dk_at dksX8_beginsAnew_3 22 rfl rfl)
theorem dX8_beginsAnew_93 : decode cX8_beginsAnew 93 = .ok (.bipush 10, 2) := dk_16 10 (dk_at dksX8_beginsAnew_4 0 rfl rfl)
theorem dX8_beginsAnew_95 : decode cX8_beginsAnew 95 = .ok (.iload_n 1, 1) := dk_27 (dk_at dksX8_beginsAnew_4 2 rfl rfl)
theorem dX8_beginsAnew_96 : decode cX8_beginsAnew 96 = .ok (.imul, 1) := dk_104 (dk_at dksX8_beginsAnew_4 3 rfl rfl)
theorem dX8_beginsAnew_97 : decode cX8_beginsAnew 97 = .ok (.iadd, 1) := dk_96 (dk_at dksX8_beginsAnew_4 4 rfl rfl)
theorem dX8_beginsAnew_98 : decode cX8_beginsAnew 98 = .ok (.aload_n 0, 1) := dk_42 (dk_at dksX8_beginsAnew_4 5 rfl rfl)
theorem dX8_beginsAnew_99 : decode cX8_beginsAnew 99 = .ok (.getfield 29, 3) := dk_180 0 29 (dk_at dksX8_beginsAnew_4 6 rfl rfl)
theorem dX8_beginsAnew_102 : decode cX8_beginsAnew 102 = .ok (.iload_n 1, 1) := dk_27 (dk_at dksX8_beginsAnew_4 9 rfl rfl)
theorem dX8_beginsAnew_103 : decode cX8_beginsAnew 103 = .ok (.iaload, 1) := dk_46 (dk_at dksX8_beginsAnew_4 10 rfl rfl)
theorem dX8_beginsAnew_104 : decode cX8_beginsAnew 104 = .ok (.iadd, 1) := dk_96 (dk_at dksX8_beginsAnew_4 11 rfl rfl)
theorem dX8_beginsAnew_105 : decode cX8_beginsAnew 105 = .ok (.bipush 50, 2) := dk_16 50 (dk_at dksX8_beginsAnew_4 12 rfl rfl)
theorem dX8_beginsAnew_107 : decode cX8_beginsAnew 107 = .ok (.iastore, 1) := dk_79 (dk_at dksX8_beginsAnew_4 14 rfl rfl)
theorem dX8_beginsAnew_108 : decode cX8_beginsAnew 108 = .ok (.iinc 1 1, 3) := dk_132 1 1 (dk_at dksX8_beginsAnew_4 15 rfl rfl)
theorem dX8_beginsAnew_111 : decode cX8_beginsAnew 111 = .ok (.goto (-63), 3) := dk_167 255 193 (dk_at dksX8_beginsAnew_4 18 rfl rfl)
theorem dX8_beginsAnew_114 : decode cX8_beginsAnew 114 = .ok (.aload_n 0, 1) := dk_42 (dk_at dksX8_beginsAnew_4 21 rfl rfl)
theorem dX8_beginsAnew_115 : decode cX8_beginsAnew 115 = .ok (.getfield 40, 3) := dk_180 0 40 (dk_at dksX8_beginsAnew_5 0 rfl rfl)
theorem dX8_beginsAnew_118 : decode cX8_beginsAnew 118 = .ok (.aload_n 0, 1) := dk_42 (dk_at dksX8_beginsAnew_5 3 rfl rfl)
theorem dX8_beginsAnew_119 : decode cX8_beginsAnew 119 = .ok (.getfield 43, 3) := dk_180 0 43 (dk_at dksX8_beginsAnew_5 4 rfl rfl)
theorem dX8_beginsAnew_122 : decode cX8_beginsAnew 122 = .ok (.aload_n 0, 1) := dk_42 (dk_at dksX8_beginsAnew_5 7 rfl rfl)
theorem dX8_beginsAnew_123 : decode cX8_beginsAnew 123 = .ok (.getfield 23, 3) := dk_180 0 23 (dk_at dksX8_beginsAnew_5 8 rfl rfl)
theorem dX8_beginsAnew_126 : decode cX8_beginsAnew 126 = .ok (.iconst 1, 1) := dk_4 (dk_at dksX8_beginsAnew_5 11 rfl rfl)
theorem dX8_beginsAnew_127 : decode cX8_beginsAnew 127 = .ok (.iaload, 1) := dk_46 (dk_at dksX8_beginsAnew_5 12 rfl rfl)
theorem dX8_beginsAnew_128 : decode cX8_beginsAnew 128 = .ok (.invokestatic 202, 3) := dk_184 0 202 (dk_at dksX8_beginsAnew_5 13 rfl rfl)
theorem dX8_beginsAnew_131 : decode cX8_beginsAnew 131 = .ok (.aload_n 0, 1) := dk_42 (dk_at dksX8_beginsAnew_5 16 rfl rfl)
theorem dX8_beginsAnew_132 : decode cX8_beginsAnew 132 = .ok (.getfield 46, 3) := dk_180 0 46 (dk_at dksX8_beginsAnew_5 17 rfl rfl)
theorem dX8_beginsAnew_135 : decode cX8_beginsAnew 135 = .ok (.aload_n 0, 1) := dk_42 (dk_at dksX8_beginsAnew_5 20 rfl rfl)
theorem dX8_beginsAnew_136 : decode cX8_beginsAnew 136 = .ok (.getfield 49, 3) := dk_180 0 49 (dk_at dksX8_beginsAnew_5 21 rfl rfl)
theorem dX8_beginsAnew_139 : decode cX8_beginsAnew 139 = .ok (.aload_n 0, 1) := dk_42 (dk_at dksX8_beginsAnew_6 0 rfl rfl)
theorem dX8_beginsAnew_140 : decode cX8_beginsAnew 140 = .ok (.getfield 23, 3) := dk_180 0 23 (dk_at dksX8_beginsAnew_6 1 rfl rfl)
theorem dX8_beginsAnew_143 : decode cX8_beginsAnew 143 = .ok (.iconst 2, 1) := dk_5 (dk_at dksX8_beginsAnew_6 4 rfl rfl)
theorem dX8_beginsAnew_144 : decode cX8_beginsAnew 144 = .ok (.iaload, 1) := dk_46 (dk_at dksX8_beginsAnew_6 5 rfl rfl)
theorem dX8_beginsAnew_145 : decode cX8_beginsAnew 145 = .ok (.invokestatic 202, 3) := dk_184 0 202 (dk_at dksX8_beginsAnew_6 6 rfl rfl)
theorem dX8_beginsAnew_148 : decode cX8_beginsAnew 148 = .ok (.iconst 0, 1) := dk_3 (dk_at dksX8_beginsAnew_6 9 rfl rfl)
theorem dX8_beginsAnew_149 : decode cX8_beginsAnew 149 = .ok (.istore_n 1, 1) := dk_60 (dk_at dksX8_beginsAnew_6 10 rfl rfl)
theorem dX8_beginsAnew_150 : decode cX8_beginsAnew 150 = .ok (.iload_n 1, 1) := dk_27 (dk_at dksX8_beginsAnew_6 11 rfl rfl)
theorem dX8_beginsAnew_151 : decode cX8_beginsAnew 151 = .ok (.bipush 6, 2) := dk_16 6 (dk_at dksX8_beginsAnew_6 12 rfl rfl)
theorem dX8_beginsAnew_153 : decode cX8_beginsAnew 153 = .ok (.if_icmp .ge 19, 3) := dk_162 0 19 (dk_at dksX8_beginsAnew_6 14 rfl rfl)
theorem dX8_beginsAnew_156 : decode cX8_beginsAnew 156 = .ok (.aload_n 0, 1) := dk_42 (dk_at dksX8_beginsAnew_6 17 rfl rfl)
theorem dX8_beginsAnew_157 : decode cX8_beginsAnew 157 = .ok (.getfield 73, 3) := dk_180 0 73 (dk_at dksX8_beginsAnew_6 18 rfl rfl)
theorem dX8_beginsAnew_160 : decode cX8_beginsAnew 160 = .ok (.bipush 80, 2) := dk_16 80 (dk_at dksX8_beginsAnew_6 21 rfl rfl)
theorem dX8_beginsAnew_162 : decode cX8_beginsAnew 162 = .ok (.iload_n 1, 1) := dk_27 (dk_at dksX8_beginsAnew_6 23 rfl rfl)
theorem dX8_beginsAnew_163 : decode cX8_beginsAnew 163 = .ok (.iadd, 1) := dk_96 (dk_at dksX8_beginsAnew_7 0 rfl rfl)
theorem dX8_beginsAnew_164 : decode cX8_beginsAnew 164 = .ok (.iconst (-1), 1) := dk_2 (dk_at dksX8_beginsAnew_7 1 rfl rfl)
theorem dX8_beginsAnew_165 : decode cX8_beginsAnew 165 = .ok (.iastore, 1) := dk_79 (dk_at dksX8_beginsAnew_7 2 rfl rfl)
theorem dX8_beginsAnew_166 : decode cX8_beginsAnew 166 = .ok (.iinc 1 1, 3) := dk_132 1 1 (dk_at dksX8_beginsAnew_7 3 rfl rfl)
theorem dX8_beginsAnew_169 : decode cX8_beginsAnew 169 = .ok (.goto (-19), 3) := dk_167 255 237 (dk_at dksX8_beginsAnew_7 6 rfl rfl)
theorem dX8_beginsAnew_172 : decode cX8_beginsAnew 172 = .ok (.aload_n 0, 1) := dk_42 (dk_at dksX8_beginsAnew_7 9 rfl rfl)
theorem dX8_beginsAnew_173 : decode cX8_beginsAnew 173 = .ok (.getfield 73, 3) := dk_180 0 73 (dk_at dksX8_beginsAnew_7 10 rfl rfl)
theorem dX8_beginsAnew_176 : decode cX8_beginsAnew 176 = .ok (.bipush 98, 2) := dk_16 98 (dk_at dksX8_beginsAnew_7 13 rfl rfl)
theorem dX8_beginsAnew_178 : decode cX8_beginsAnew 178 = .ok (.aload_n 0, 1) := dk_42 (dk_at dksX8_beginsAnew_7 15 rfl rfl)
theorem dX8_beginsAnew_179 : decode cX8_beginsAnew 179 = .ok (.getfield 23, 3) := dk_180 0 23 (dk_at dksX8_beginsAnew_7 16 rfl rfl)
theorem dX8_beginsAnew_182 : decode cX8_beginsAnew 182 = .ok (.iconst 3, 1) := dk_6 (dk_at dksX8_beginsAnew_7 19 rfl rfl)
theorem dX8_beginsAnew_183 : decode cX8_beginsAnew 183 = .ok (.iaload, 1) := dk_46 (dk_at dksX8_beginsAnew_7 20 rfl rfl)
theorem dX8_beginsAnew_184 : decode cX8_beginsAnew 184 = .ok (.iastore, 1) := dk_79 (dk_at dksX8_beginsAnew_7 21 rfl rfl)
theorem dX8_beginsAnew_185 : decode cX8_beginsAnew 185 = .ok (.aload_n 0, 1) := dk_42 (dk_at dksX8_beginsAnew_7 22 rfl rfl)
theorem dX8_beginsAnew_186 : decode cX8_beginsAnew 186 = .ok (.iconst 0, 1) := dk_3 (dk_at dksX8_beginsAnew_7 23 rfl rfl)
theorem dX8_beginsAnew_187 : decode cX8_beginsAnew 187 = .ok (.putfield 206, 3) := dk_181 0 206 (dk_at dksX8_beginsAnew_8 0 rfl rfl)
theorem dX8_beginsAnew_190 : decode cX8_beginsAnew 190 = .ok (.aload_n 0, 1) := dk_42 (dk_at dksX8_beginsAnew_8 3 rfl rfl)
theorem dX8_beginsAnew_191 : decode cX8_beginsAnew 191 = .ok (.iconst 0, 1) := dk_3 (dk_at dksX8_beginsAnew_8 4 rfl rfl)
theorem dX8_beginsAnew_192 : decode cX8_beginsAnew 192 = .ok (.putfield 209, 3) := dk_181 0 209 (dk_at dksX8_beginsAnew_8 5 rfl rfl)
theorem dX8_beginsAnew_195 : decode cX8_beginsAnew 195 = .ok (.aload_n 0, 1) := dk_42 (dk_at dksX8_beginsAnew_8 8 rfl rfl)
theorem dX8_beginsAnew_196 : decode cX8_beginsAnew 196 = .ok (.iconst 0, 1) := dk_3 (dk_at dksX8_beginsAnew_8 9 rfl rfl)
theorem dX8_beginsAnew_197 : decode cX8_beginsAnew 197 = .ok (.putfield 212, 3) := dk_181 0 212 (dk_at dksX8_beginsAnew_8 10 rfl rfl)
theorem dX8_beginsAnew_200 : decode cX8_beginsAnew 200 = .ok (.aload_n 0, 1) := dk_42 (dk_at dksX8_beginsAnew_8 13 rfl rfl)
theorem dX8_beginsAnew_201 : decode cX8_beginsAnew 201 = .ok (.iconst 0, 1) := dk_3 (dk_at dksX8_beginsAnew_8 14 rfl rfl)
theorem dX8_beginsAnew_202 : decode cX8_beginsAnew 202 = .ok (.putfield 215, 3) := dk_181 0 215 (dk_at dksX8_beginsAnew_8 15 rfl rfl)
theorem dX8_beginsAnew_205 : decode cX8_beginsAnew 205 = .ok (.aload_n 0, 1) := dk_42 (dk_at dksX8_beginsAnew_8 18 rfl rfl)
theorem dX8_beginsAnew_206 : decode cX8_beginsAnew 206 = .ok (.iconst 0, 1) := dk_3 (dk_at dksX8_beginsAnew_8 19 rfl rfl)
theorem dX8_beginsAnew_207 : decode cX8_beginsAnew 207 = .ok (.putfield 218, 3) := dk_181 0 218 (dk_at dksX8_beginsAnew_8 20 rfl rfl)
theorem dX8_beginsAnew_210 : decode cX8_beginsAnew 210 = .ok (.return_, 1) := dk_177 (dk_at dksX8_beginsAnew_8 23 rfl rfl)
abbrev cX8_lays : ByteArray := prog_30_method_31_code
def yX8_lays : MethodName := ⟨RX8, "lays", "([[I[[II)V"⟩
def dkwX8_lays_1 : List UInt8 := [42, 29, 50, 21, 4, 46, 79, 132, 4, 1, 167, 255, 232, 132, 3, 1, 167, 255, 218, 177]
abbrev dktX8_lays_1 : List UInt8 := dkwX8_lays_1 ++ []
def dkwX8_lays_0 : List UInt8 := [3, 62, 29, 28, 162, 0, 39, 3, 54, 4, 21, 4, 43, 29, 50, 190, 162, 0, 21, 43, 29, 50, 21, 4]
abbrev dktX8_lays_0 : List UInt8 := dkwX8_lays_0 ++ dktX8_lays_1
theorem dksX8_lays_0 : cX8_lays.data.toList.drop 0 = dktX8_lays_0 := by decide +kernel
theorem dksX8_lays_1 : cX8_lays.data.toList.drop 24 = dktX8_lays_1 := dk_seg dksX8_lays_0 24 rfl rfl
theorem dX8_lays_0 : decode cX8_lays 0 = .ok (.iconst 0, 1) := dk_3 (dk_at dksX8_lays_0 0 rfl rfl)
theorem dX8_lays_1 : decode cX8_lays 1 = .ok (.istore_n 3, 1) := dk_62 (dk_at dksX8_lays_0 1 rfl rfl)
theorem dX8_lays_2 : decode cX8_lays 2 = .ok (.iload_n 3, 1) := dk_29 (dk_at dksX8_lays_0 2 rfl rfl)
theorem dX8_lays_3 : decode cX8_lays 3 = .ok (.iload_n 2, 1) := dk_28 (dk_at dksX8_lays_0 3 rfl rfl)
theorem dX8_lays_4 : decode cX8_lays 4 = .ok (.if_icmp .ge 39, 3) := dk_162 0 39 (dk_at dksX8_lays_0 4 rfl rfl)
theorem dX8_lays_7 : decode cX8_lays 7 = .ok (.iconst 0, 1) := dk_3 (dk_at dksX8_lays_0 7 rfl rfl)
theorem dX8_lays_8 : decode cX8_lays 8 = .ok (.istore 4, 2) := dk_54 4 (dk_at dksX8_lays_0 8 rfl rfl)
theorem dX8_lays_10 : decode cX8_lays 10 = .ok (.iload 4, 2) := dk_21 4 (dk_at dksX8_lays_0 10 rfl rfl)
theorem dX8_lays_12 : decode cX8_lays 12 = .ok (.aload_n 1, 1) := dk_43 (dk_at dksX8_lays_0 12 rfl rfl)
theorem dX8_lays_13 : decode cX8_lays 13 = .ok (.iload_n 3, 1) := dk_29 (dk_at dksX8_lays_0 13 rfl rfl)
theorem dX8_lays_14 : decode cX8_lays 14 = .ok (.aaload, 1) := dk_50 (dk_at dksX8_lays_0 14 rfl rfl)
theorem dX8_lays_15 : decode cX8_lays 15 = .ok (.arraylength, 1) := dk_190 (dk_at dksX8_lays_0 15 rfl rfl)
theorem dX8_lays_16 : decode cX8_lays 16 = .ok (.if_icmp .ge 21, 3) := dk_162 0 21 (dk_at dksX8_lays_0 16 rfl rfl)
theorem dX8_lays_19 : decode cX8_lays 19 = .ok (.aload_n 1, 1) := dk_43 (dk_at dksX8_lays_0 19 rfl rfl)
theorem dX8_lays_20 : decode cX8_lays 20 = .ok (.iload_n 3, 1) := dk_29 (dk_at dksX8_lays_0 20 rfl rfl)
theorem dX8_lays_21 : decode cX8_lays 21 = .ok (.aaload, 1) := dk_50 (dk_at dksX8_lays_0 21 rfl rfl)
theorem dX8_lays_22 : decode cX8_lays 22 = .ok (.iload 4, 2) := dk_21 4 (dk_at dksX8_lays_0 22 rfl rfl)
theorem dX8_lays_24 : decode cX8_lays 24 = .ok (.aload_n 0, 1) := dk_42 (dk_at dksX8_lays_1 0 rfl rfl)
theorem dX8_lays_25 : decode cX8_lays 25 = .ok (.iload_n 3, 1) := dk_29 (dk_at dksX8_lays_1 1 rfl rfl)
theorem dX8_lays_26 : decode cX8_lays 26 = .ok (.aaload, 1) := dk_50 (dk_at dksX8_lays_1 2 rfl rfl)
theorem dX8_lays_27 : decode cX8_lays 27 = .ok (.iload 4, 2) := dk_21 4 (dk_at dksX8_lays_1 3 rfl rfl)
theorem dX8_lays_29 : decode cX8_lays 29 = .ok (.iaload, 1) := dk_46 (dk_at dksX8_lays_1 5 rfl rfl)
theorem dX8_lays_30 : decode cX8_lays 30 = .ok (.iastore, 1) := dk_79 (dk_at dksX8_lays_1 6 rfl rfl)
theorem dX8_lays_31 : decode cX8_lays 31 = .ok (.iinc 4 1, 3) := dk_132 4 1 (dk_at dksX8_lays_1 7 rfl rfl)
theorem dX8_lays_34 : decode cX8_lays 34 = .ok (.goto (-24), 3) := dk_167 255 232 (dk_at dksX8_lays_1 10 rfl rfl)
theorem dX8_lays_37 : decode cX8_lays 37 = .ok (.iinc 3 1, 3) := dk_132 3 1 (dk_at dksX8_lays_1 13 rfl rfl)
theorem dX8_lays_40 : decode cX8_lays 40 = .ok (.goto (-38), 3) := dk_167 255 218 (dk_at dksX8_lays_1 16 rfl rfl)
theorem dX8_lays_43 : decode cX8_lays 43 = .ok (.return_, 1) := dk_177 (dk_at dksX8_lays_1 19 rfl rfl)
abbrev cX8_thrown : ByteArray := prog_30_method_3_code
def yX8_thrown : MethodName := ⟨RX8, "thrown", "()I"⟩
theorem dX8_thrown_0 : decode cX8_thrown 0 = .ok (.aload_n 0, 1) := by decide +kernel
theorem dX8_thrown_1 : decode cX8_thrown 1 = .ok (.getfield 106, 3) := by decide +kernel
theorem dX8_thrown_4 : decode cX8_thrown 4 = .ok (.ireturn, 1) := by decide +kernel
abbrev cX8_feed : ByteArray := prog_30_method_9_code
def yX8_feed : MethodName := ⟨RX8, "feed", "(IIIII)I"⟩
def dkwX8_feed_5 : List UInt8 := [167, 255, 162, 42, 180, 0, 109, 172]
abbrev dktX8_feed_5 : List UInt8 := dkwX8_feed_5 ++ []
def dkwX8_feed_4 : List UInt8 := [112, 104, 100, 122, 17, 0, 255, 126, 79, 42, 89, 180, 0, 109, 4, 96, 181, 0, 109, 132, 6, 1]
abbrev dktX8_feed_4 : List UInt8 := dkwX8_feed_4 ++ dktX8_feed_5
def dkwX8_feed_3 : List UInt8 := [167, 0, 5, 21, 5, 54, 7, 42, 180, 0, 13, 42, 180, 0, 109, 21, 7, 16, 24, 16, 8, 21, 6, 7]
abbrev dktX8_feed_3 : List UInt8 := dkwX8_feed_3 ++ dktX8_feed_4
def dkwX8_feed_2 : List UInt8 := [28, 167, 0, 28, 21, 6, 16, 12, 162, 0, 7, 29, 167, 0, 17, 21, 6, 16, 16, 162, 0, 8, 21, 4]
abbrev dktX8_feed_2 : List UInt8 := dkwX8_feed_2 ++ dktX8_feed_3
def dkwX8_feed_1 : List UInt8 := [21, 6, 16, 20, 162, 0, 93, 21, 6, 7, 162, 0, 7, 27, 167, 0, 39, 21, 6, 16, 8, 162, 0, 7]
abbrev dktX8_feed_1 : List UInt8 := dkwX8_feed_1 ++ dktX8_feed_2
def dkwX8_feed_0 : List UInt8 := [42, 3, 181, 0, 106, 42, 180, 0, 109, 16, 20, 96, 17, 2, 88, 164, 0, 5, 2, 172, 3, 54, 6]
abbrev dktX8_feed_0 : List UInt8 := dkwX8_feed_0 ++ dktX8_feed_1
theorem dksX8_feed_0 : cX8_feed.data.toList.drop 0 = dktX8_feed_0 := by decide +kernel
theorem dksX8_feed_1 : cX8_feed.data.toList.drop 23 = dktX8_feed_1 := dk_seg dksX8_feed_0 23 rfl rfl
theorem dksX8_feed_2 : cX8_feed.data.toList.drop 47 = dktX8_feed_2 := dk_seg dksX8_feed_1 24 rfl rfl
theorem dksX8_feed_3 : cX8_feed.data.toList.drop 71 = dktX8_feed_3 := dk_seg dksX8_feed_2 24 rfl rfl
theorem dksX8_feed_4 : cX8_feed.data.toList.drop 95 = dktX8_feed_4 := dk_seg dksX8_feed_3 24 rfl rfl
theorem dksX8_feed_5 : cX8_feed.data.toList.drop 117 = dktX8_feed_5 := dk_seg dksX8_feed_4 22 rfl rfl
theorem dX8_feed_0 : decode cX8_feed 0 = .ok (.aload_n 0, 1) := dk_42 (dk_at dksX8_feed_0 0 rfl rfl)
theorem dX8_feed_1 : decode cX8_feed 1 = .ok (.iconst 0, 1) := dk_3 (dk_at dksX8_feed_0 1 rfl rfl)
theorem dX8_feed_2 : decode cX8_feed 2 = .ok (.putfield 106, 3) := dk_181 0 106 (dk_at dksX8_feed_0 2 rfl rfl)
theorem dX8_feed_5 : decode cX8_feed 5 = .ok (.aload_n 0, 1) := dk_42 (dk_at dksX8_feed_0 5 rfl rfl)
theorem dX8_feed_6 : decode cX8_feed 6 = .ok (.getfield 109, 3) := dk_180 0 109 (dk_at dksX8_feed_0 6 rfl rfl)
theorem dX8_feed_9 : decode cX8_feed 9 = .ok (.bipush 20, 2) := dk_16 20 (dk_at dksX8_feed_0 9 rfl rfl)
theorem dX8_feed_11 : decode cX8_feed 11 = .ok (.iadd, 1) := dk_96 (dk_at dksX8_feed_0 11 rfl rfl)
theorem dX8_feed_12 : decode cX8_feed 12 = .ok (.sipush 600, 3) := dk_17 2 88 (dk_at dksX8_feed_0 12 rfl rfl)
theorem dX8_feed_15 : decode cX8_feed 15 = .ok (.if_icmp .le 5, 3) := dk_164 0 5 (dk_at dksX8_feed_0 15 rfl rfl)
theorem dX8_feed_18 : decode cX8_feed 18 = .ok (.iconst (-1), 1) := dk_2 (dk_at dksX8_feed_0 18 rfl rfl)
theorem dX8_feed_19 : decode cX8_feed 19 = .ok (.ireturn, 1) := dk_172 (dk_at dksX8_feed_0 19 rfl rfl)
theorem dX8_feed_20 : decode cX8_feed 20 = .ok (.iconst 0, 1) := dk_3 (dk_at dksX8_feed_0 20 rfl rfl)
theorem dX8_feed_21 : decode cX8_feed 21 = .ok (.istore 6, 2) := dk_54 6 (dk_at dksX8_feed_0 21 rfl rfl)
theorem dX8_feed_23 : decode cX8_feed 23 = .ok (.iload 6, 2) := dk_21 6 (dk_at dksX8_feed_1 0 rfl rfl)
theorem dX8_feed_25 : decode cX8_feed 25 = .ok (.bipush 20, 2) := dk_16 20 (dk_at dksX8_feed_1 2 rfl rfl)
theorem dX8_feed_27 : decode cX8_feed 27 = .ok (.if_icmp .ge 93, 3) := dk_162 0 93 (dk_at dksX8_feed_1 4 rfl rfl)
theorem dX8_feed_30 : decode cX8_feed 30 = .ok (.iload 6, 2) := dk_21 6 (dk_at dksX8_feed_1 7 rfl rfl)
theorem dX8_feed_32 : decode cX8_feed 32 = .ok (.iconst 4, 1) := dk_7 (dk_at dksX8_feed_1 9 rfl rfl)
theorem dX8_feed_33 : decode cX8_feed 33 = .ok (.if_icmp .ge 7, 3) := dk_162 0 7 (dk_at dksX8_feed_1 10 rfl rfl)
theorem dX8_feed_36 : decode cX8_feed 36 = .ok (.iload_n 1, 1) := dk_27 (dk_at dksX8_feed_1 13 rfl rfl)
theorem dX8_feed_37 : decode cX8_feed 37 = .ok (.goto 39, 3) := dk_167 0 39 (dk_at dksX8_feed_1 14 rfl rfl)
theorem dX8_feed_40 : decode cX8_feed 40 = .ok (.iload 6, 2) := dk_21 6 (dk_at dksX8_feed_1 17 rfl rfl)
theorem dX8_feed_42 : decode cX8_feed 42 = .ok (.bipush 8, 2) := dk_16 8 (dk_at dksX8_feed_1 19 rfl rfl)
theorem dX8_feed_44 : decode cX8_feed 44 = .ok (.if_icmp .ge 7, 3) := dk_162 0 7 (dk_at dksX8_feed_1 21 rfl rfl)
theorem dX8_feed_47 : decode cX8_feed 47 = .ok (.iload_n 2, 1) := dk_28 (dk_at dksX8_feed_2 0 rfl rfl)
theorem dX8_feed_48 : decode cX8_feed 48 = .ok (.goto 28, 3) := dk_167 0 28 (dk_at dksX8_feed_2 1 rfl rfl)
theorem dX8_feed_51 : decode cX8_feed 51 = .ok (.iload 6, 2) := dk_21 6 (dk_at dksX8_feed_2 4 rfl rfl)
theorem dX8_feed_53 : decode cX8_feed 53 = .ok (.bipush 12, 2) := dk_16 12 (dk_at dksX8_feed_2 6 rfl rfl)
theorem dX8_feed_55 : decode cX8_feed 55 = .ok (.if_icmp .ge 7, 3) := dk_162 0 7 (dk_at dksX8_feed_2 8 rfl rfl)
theorem dX8_feed_58 : decode cX8_feed 58 = .ok (.iload_n 3, 1) := dk_29 (dk_at dksX8_feed_2 11 rfl rfl)
theorem dX8_feed_59 : decode cX8_feed 59 = .ok (.goto 17, 3) := dk_167 0 17 (dk_at dksX8_feed_2 12 rfl rfl)
theorem dX8_feed_62 : decode cX8_feed 62 = .ok (.iload 6, 2) := dk_21 6 (dk_at dksX8_feed_2 15 rfl rfl)
theorem dX8_feed_64 : decode cX8_feed 64 = .ok (.bipush 16, 2) := dk_16 16 (dk_at dksX8_feed_2 17 rfl rfl)
theorem dX8_feed_66 : decode cX8_feed 66 = .ok (.if_icmp .ge 8, 3) := dk_162 0 8 (dk_at dksX8_feed_2 19 rfl rfl)
theorem dX8_feed_69 : decode cX8_feed 69 = .ok (.iload 4, 2) := dk_21 4 (dk_at dksX8_feed_2 22 rfl rfl)
theorem dX8_feed_71 : decode cX8_feed 71 = .ok (.goto 5, 3) := dk_167 0 5 (dk_at dksX8_feed_3 0 rfl rfl)
theorem dX8_feed_74 : decode cX8_feed 74 = .ok (.iload 5, 2) := dk_21 5 (dk_at dksX8_feed_3 3 rfl rfl)
theorem dX8_feed_76 : decode cX8_feed 76 = .ok (.istore 7, 2) := dk_54 7 (dk_at dksX8_feed_3 5 rfl rfl)
theorem dX8_feed_78 : decode cX8_feed 78 = .ok (.aload_n 0, 1) := dk_42 (dk_at dksX8_feed_3 7 rfl rfl)
theorem dX8_feed_79 : decode cX8_feed 79 = .ok (.getfield 13, 3) := dk_180 0 13 (dk_at dksX8_feed_3 8 rfl rfl)
theorem dX8_feed_82 : decode cX8_feed 82 = .ok (.aload_n 0, 1) := dk_42 (dk_at dksX8_feed_3 11 rfl rfl)
theorem dX8_feed_83 : decode cX8_feed 83 = .ok (.getfield 109, 3) := dk_180 0 109 (dk_at dksX8_feed_3 12 rfl rfl)
theorem dX8_feed_86 : decode cX8_feed 86 = .ok (.iload 7, 2) := dk_21 7 (dk_at dksX8_feed_3 15 rfl rfl)
theorem dX8_feed_88 : decode cX8_feed 88 = .ok (.bipush 24, 2) := dk_16 24 (dk_at dksX8_feed_3 17 rfl rfl)
theorem dX8_feed_90 : decode cX8_feed 90 = .ok (.bipush 8, 2) := dk_16 8 (dk_at dksX8_feed_3 19 rfl rfl)
theorem dX8_feed_92 : decode cX8_feed 92 = .ok (.iload 6, 2) := dk_21 6 (dk_at dksX8_feed_3 21 rfl rfl)
theorem dX8_feed_94 : decode cX8_feed 94 = .ok (.iconst 4, 1) := dk_7 (dk_at dksX8_feed_3 23 rfl rfl)
theorem dX8_feed_95 : decode cX8_feed 95 = .ok (.irem, 1) := dk_112 (dk_at dksX8_feed_4 0 rfl rfl)
theorem dX8_feed_96 : decode cX8_feed 96 = .ok (.imul, 1) := dk_104 (dk_at dksX8_feed_4 1 rfl rfl)
theorem dX8_feed_97 : decode cX8_feed 97 = .ok (.isub, 1) := dk_100 (dk_at dksX8_feed_4 2 rfl rfl)
theorem dX8_feed_98 : decode cX8_feed 98 = .ok (.ishr, 1) := dk_122 (dk_at dksX8_feed_4 3 rfl rfl)
theorem dX8_feed_99 : decode cX8_feed 99 = .ok (.sipush 255, 3) := dk_17 0 255 (dk_at dksX8_feed_4 4 rfl rfl)
theorem dX8_feed_102 : decode cX8_feed 102 = .ok (.iand, 1) := dk_126 (dk_at dksX8_feed_4 7 rfl rfl)
theorem dX8_feed_103 : decode cX8_feed 103 = .ok (.iastore, 1) := dk_79 (dk_at dksX8_feed_4 8 rfl rfl)
theorem dX8_feed_104 : decode cX8_feed 104 = .ok (.aload_n 0, 1) := dk_42 (dk_at dksX8_feed_4 9 rfl rfl)
theorem dX8_feed_105 : decode cX8_feed 105 = .ok (.dup, 1) := dk_89 (dk_at dksX8_feed_4 10 rfl rfl)
theorem dX8_feed_106 : decode cX8_feed 106 = .ok (.getfield 109, 3) := dk_180 0 109 (dk_at dksX8_feed_4 11 rfl rfl)
theorem dX8_feed_109 : decode cX8_feed 109 = .ok (.iconst 1, 1) := dk_4 (dk_at dksX8_feed_4 14 rfl rfl)
theorem dX8_feed_110 : decode cX8_feed 110 = .ok (.iadd, 1) := dk_96 (dk_at dksX8_feed_4 15 rfl rfl)
theorem dX8_feed_111 : decode cX8_feed 111 = .ok (.putfield 109, 3) := dk_181 0 109 (dk_at dksX8_feed_4 16 rfl rfl)
theorem dX8_feed_114 : decode cX8_feed 114 = .ok (.iinc 6 1, 3) := dk_132 6 1 (dk_at dksX8_feed_4 19 rfl rfl)
theorem dX8_feed_117 : decode cX8_feed 117 = .ok (.goto (-94), 3) := dk_167 255 162 (dk_at dksX8_feed_5 0 rfl rfl)
theorem dX8_feed_120 : decode cX8_feed 120 = .ok (.aload_n 0, 1) := dk_42 (dk_at dksX8_feed_5 3 rfl rfl)
theorem dX8_feed_121 : decode cX8_feed 121 = .ok (.getfield 109, 3) := dk_180 0 109 (dk_at dksX8_feed_5 4 rfl rfl)
theorem dX8_feed_124 : decode cX8_feed 124 = .ok (.ireturn, 1) := dk_172 (dk_at dksX8_feed_5 7 rfl rfl)
abbrev cX8_terrace : ByteArray := prog_30_method_30_code
def yX8_terrace : MethodName := ⟨RX8, "terrace", "(I)I"⟩
def dkwX8_terrace_4 : List UInt8 := [42, 180, 0, 23, 5, 46, 172]
abbrev dktX8_terrace_4 : List UInt8 := dkwX8_terrace_4 ++ []
def dkwX8_terrace_3 : List UInt8 := [167, 255, 230, 42, 180, 0, 122, 153, 0, 8, 42, 182, 0, 199, 172, 42, 2, 181, 0, 9, 42, 182, 0, 103]
abbrev dktX8_terrace_3 : List UInt8 := dkwX8_terrace_3 ++ dktX8_terrace_4
def dkwX8_terrace_2 : List UInt8 := [154, 0, 25, 42, 180, 0, 115, 42, 180, 0, 112, 162, 0, 14, 42, 182, 0, 196, 42, 182, 0, 128]
abbrev dktX8_terrace_2 : List UInt8 := dkwX8_terrace_2 ++ dktX8_terrace_3
def dkwX8_terrace_1 : List UInt8 := [4, 182, 0, 189, 153, 0, 5, 3, 172, 42, 27, 182, 0, 193, 42, 182, 0, 100, 42, 180, 0, 122]
abbrev dktX8_terrace_1 : List UInt8 := dkwX8_terrace_1 ++ dktX8_terrace_2
def dkwX8_terrace_0 : List UInt8 := [42, 3, 181, 0, 106, 42, 27, 3, 42, 180, 0, 109, 184, 0, 140, 154, 0, 7, 4, 167, 0, 4, 3, 4]
abbrev dktX8_terrace_0 : List UInt8 := dkwX8_terrace_0 ++ dktX8_terrace_1
theorem dksX8_terrace_0 : cX8_terrace.data.toList.drop 0 = dktX8_terrace_0 := by decide +kernel
theorem dksX8_terrace_1 : cX8_terrace.data.toList.drop 24 = dktX8_terrace_1 := dk_seg dksX8_terrace_0 24 rfl rfl
theorem dksX8_terrace_2 : cX8_terrace.data.toList.drop 46 = dktX8_terrace_2 := dk_seg dksX8_terrace_1 22 rfl rfl
theorem dksX8_terrace_3 : cX8_terrace.data.toList.drop 68 = dktX8_terrace_3 := dk_seg dksX8_terrace_2 22 rfl rfl
theorem dksX8_terrace_4 : cX8_terrace.data.toList.drop 92 = dktX8_terrace_4 := dk_seg dksX8_terrace_3 24 rfl rfl
theorem dX8_terrace_0 : decode cX8_terrace 0 = .ok (.aload_n 0, 1) := dk_42 (dk_at dksX8_terrace_0 0 rfl rfl)
theorem dX8_terrace_1 : decode cX8_terrace 1 = .ok (.iconst 0, 1) := dk_3 (dk_at dksX8_terrace_0 1 rfl rfl)
theorem dX8_terrace_2 : decode cX8_terrace 2 = .ok (.putfield 106, 3) := dk_181 0 106 (dk_at dksX8_terrace_0 2 rfl rfl)
theorem dX8_terrace_5 : decode cX8_terrace 5 = .ok (.aload_n 0, 1) := dk_42 (dk_at dksX8_terrace_0 5 rfl rfl)
theorem dX8_terrace_6 : decode cX8_terrace 6 = .ok (.iload_n 1, 1) := dk_27 (dk_at dksX8_terrace_0 6 rfl rfl)
theorem dX8_terrace_7 : decode cX8_terrace 7 = .ok (.iconst 0, 1) := dk_3 (dk_at dksX8_terrace_0 7 rfl rfl)
theorem dX8_terrace_8 : decode cX8_terrace 8 = .ok (.aload_n 0, 1) := dk_42 (dk_at dksX8_terrace_0 8 rfl rfl)
theorem dX8_terrace_9 : decode cX8_terrace 9 = .ok (.getfield 109, 3) := dk_180 0 109 (dk_at dksX8_terrace_0 9 rfl rfl)
theorem dX8_terrace_12 : decode cX8_terrace 12 = .ok (.invokestatic 140, 3) := dk_184 0 140 (dk_at dksX8_terrace_0 12 rfl rfl)
theorem dX8_terrace_15 : decode cX8_terrace 15 = .ok (.ifCond .ne 7, 3) := dk_154 0 7 (dk_at dksX8_terrace_0 15 rfl rfl)
theorem dX8_terrace_18 : decode cX8_terrace 18 = .ok (.iconst 1, 1) := dk_4 (dk_at dksX8_terrace_0 18 rfl rfl)
theorem dX8_terrace_19 : decode cX8_terrace 19 = .ok (.goto 4, 3) := dk_167 0 4 (dk_at dksX8_terrace_0 19 rfl rfl)
theorem dX8_terrace_22 : decode cX8_terrace 22 = .ok (.iconst 0, 1) := dk_3 (dk_at dksX8_terrace_0 22 rfl rfl)
theorem dX8_terrace_23 : decode cX8_terrace 23 = .ok (.iconst 1, 1) := dk_4 (dk_at dksX8_terrace_0 23 rfl rfl)
theorem dX8_terrace_24 : decode cX8_terrace 24 = .ok (.iconst 1, 1) := dk_4 (dk_at dksX8_terrace_1 0 rfl rfl)
theorem dX8_terrace_25 : decode cX8_terrace 25 = .ok (.invokevirtual 189, 3) := dk_182 0 189 (dk_at dksX8_terrace_1 1 rfl rfl)
theorem dX8_terrace_28 : decode cX8_terrace 28 = .ok (.ifCond .eq 5, 3) := dk_153 0 5 (dk_at dksX8_terrace_1 4 rfl rfl)
theorem dX8_terrace_31 : decode cX8_terrace 31 = .ok (.iconst 0, 1) := dk_3 (dk_at dksX8_terrace_1 7 rfl rfl)
theorem dX8_terrace_32 : decode cX8_terrace 32 = .ok (.ireturn, 1) := dk_172 (dk_at dksX8_terrace_1 8 rfl rfl)
theorem dX8_terrace_33 : decode cX8_terrace 33 = .ok (.aload_n 0, 1) := dk_42 (dk_at dksX8_terrace_1 9 rfl rfl)
theorem dX8_terrace_34 : decode cX8_terrace 34 = .ok (.iload_n 1, 1) := dk_27 (dk_at dksX8_terrace_1 10 rfl rfl)
theorem dX8_terrace_35 : decode cX8_terrace 35 = .ok (.invokevirtual 193, 3) := dk_182 0 193 (dk_at dksX8_terrace_1 11 rfl rfl)
theorem dX8_terrace_38 : decode cX8_terrace 38 = .ok (.aload_n 0, 1) := dk_42 (dk_at dksX8_terrace_1 14 rfl rfl)
theorem dX8_terrace_39 : decode cX8_terrace 39 = .ok (.invokevirtual 100, 3) := dk_182 0 100 (dk_at dksX8_terrace_1 15 rfl rfl)
theorem dX8_terrace_42 : decode cX8_terrace 42 = .ok (.aload_n 0, 1) := dk_42 (dk_at dksX8_terrace_1 18 rfl rfl)
theorem dX8_terrace_43 : decode cX8_terrace 43 = .ok (.getfield 122, 3) := dk_180 0 122 (dk_at dksX8_terrace_1 19 rfl rfl)
theorem dX8_terrace_46 : decode cX8_terrace 46 = .ok (.ifCond .ne 25, 3) := dk_154 0 25 (dk_at dksX8_terrace_2 0 rfl rfl)
theorem dX8_terrace_49 : decode cX8_terrace 49 = .ok (.aload_n 0, 1) := dk_42 (dk_at dksX8_terrace_2 3 rfl rfl)
theorem dX8_terrace_50 : decode cX8_terrace 50 = .ok (.getfield 115, 3) := dk_180 0 115 (dk_at dksX8_terrace_2 4 rfl rfl)
theorem dX8_terrace_53 : decode cX8_terrace 53 = .ok (.aload_n 0, 1) := dk_42 (dk_at dksX8_terrace_2 7 rfl rfl)
theorem dX8_terrace_54 : decode cX8_terrace 54 = .ok (.getfield 112, 3) := dk_180 0 112 (dk_at dksX8_terrace_2 8 rfl rfl)
theorem dX8_terrace_57 : decode cX8_terrace 57 = .ok (.if_icmp .ge 14, 3) := dk_162 0 14 (dk_at dksX8_terrace_2 11 rfl rfl)
theorem dX8_terrace_60 : decode cX8_terrace 60 = .ok (.aload_n 0, 1) := dk_42 (dk_at dksX8_terrace_2 14 rfl rfl)
theorem dX8_terrace_61 : decode cX8_terrace 61 = .ok (.invokevirtual 196, 3) := dk_182 0 196 (dk_at dksX8_terrace_2 15 rfl rfl)
theorem dX8_terrace_64 : decode cX8_terrace 64 = .ok (.aload_n 0, 1) := dk_42 (dk_at dksX8_terrace_2 18 rfl rfl)
theorem dX8_terrace_65 : decode cX8_terrace 65 = .ok (.invokevirtual 128, 3) := dk_182 0 128 (dk_at dksX8_terrace_2 19 rfl rfl)
theorem dX8_terrace_68 : decode cX8_terrace 68 = .ok (.goto (-26), 3) := dk_167 255 230 (dk_at dksX8_terrace_3 0 rfl rfl)
theorem dX8_terrace_71 : decode cX8_terrace 71 = .ok (.aload_n 0, 1) := dk_42 (dk_at dksX8_terrace_3 3 rfl rfl)
theorem dX8_terrace_72 : decode cX8_terrace 72 = .ok (.getfield 122, 3) := dk_180 0 122 (dk_at dksX8_terrace_3 4 rfl rfl)
theorem dX8_terrace_75 : decode cX8_terrace 75 = .ok (.ifCond .eq 8, 3) := dk_153 0 8 (dk_at dksX8_terrace_3 7 rfl rfl)
theorem dX8_terrace_78 : decode cX8_terrace 78 = .ok (.aload_n 0, 1) := dk_42 (dk_at dksX8_terrace_3 10 rfl rfl)
theorem dX8_terrace_79 : decode cX8_terrace 79 = .ok (.invokevirtual 199, 3) := dk_182 0 199 (dk_at dksX8_terrace_3 11 rfl rfl)
theorem dX8_terrace_82 : decode cX8_terrace 82 = .ok (.ireturn, 1) := dk_172 (dk_at dksX8_terrace_3 14 rfl rfl)
theorem dX8_terrace_83 : decode cX8_terrace 83 = .ok (.aload_n 0, 1) := dk_42 (dk_at dksX8_terrace_3 15 rfl rfl)
theorem dX8_terrace_84 : decode cX8_terrace 84 = .ok (.iconst (-1), 1) := dk_2 (dk_at dksX8_terrace_3 16 rfl rfl)
theorem dX8_terrace_85 : decode cX8_terrace 85 = .ok (.putfield 9, 3) := dk_181 0 9 (dk_at dksX8_terrace_3 17 rfl rfl)
theorem dX8_terrace_88 : decode cX8_terrace 88 = .ok (.aload_n 0, 1) := dk_42 (dk_at dksX8_terrace_3 20 rfl rfl)
theorem dX8_terrace_89 : decode cX8_terrace 89 = .ok (.invokevirtual 103, 3) := dk_182 0 103 (dk_at dksX8_terrace_3 21 rfl rfl)
theorem dX8_terrace_92 : decode cX8_terrace 92 = .ok (.aload_n 0, 1) := dk_42 (dk_at dksX8_terrace_4 0 rfl rfl)
theorem dX8_terrace_93 : decode cX8_terrace 93 = .ok (.getfield 23, 3) := dk_180 0 23 (dk_at dksX8_terrace_4 1 rfl rfl)
theorem dX8_terrace_96 : decode cX8_terrace 96 = .ok (.iconst 2, 1) := dk_5 (dk_at dksX8_terrace_4 4 rfl rfl)
theorem dX8_terrace_97 : decode cX8_terrace 97 = .ok (.iaload, 1) := dk_46 (dk_at dksX8_terrace_4 5 rfl rfl)
theorem dX8_terrace_98 : decode cX8_terrace 98 = .ok (.ireturn, 1) := dk_172 (dk_at dksX8_terrace_4 6 rfl rfl)
abbrev cX8_in : ByteArray := prog_30_method_5_code
def yX8_in : MethodName := ⟨RX8, "in", "(III)Z"⟩
def dkwX8_in_0 : List UInt8 := [26, 27, 161, 0, 12, 26, 28, 163, 0, 7, 4, 167, 0, 4, 3, 172]
abbrev dktX8_in_0 : List UInt8 := dkwX8_in_0 ++ []
theorem dksX8_in_0 : cX8_in.data.toList.drop 0 = dktX8_in_0 := by decide +kernel
theorem dX8_in_0 : decode cX8_in 0 = .ok (.iload_n 0, 1) := dk_26 (dk_at dksX8_in_0 0 rfl rfl)
theorem dX8_in_1 : decode cX8_in 1 = .ok (.iload_n 1, 1) := dk_27 (dk_at dksX8_in_0 1 rfl rfl)
theorem dX8_in_2 : decode cX8_in 2 = .ok (.if_icmp .lt 12, 3) := dk_161 0 12 (dk_at dksX8_in_0 2 rfl rfl)
theorem dX8_in_5 : decode cX8_in 5 = .ok (.iload_n 0, 1) := dk_26 (dk_at dksX8_in_0 5 rfl rfl)
theorem dX8_in_6 : decode cX8_in 6 = .ok (.iload_n 2, 1) := dk_28 (dk_at dksX8_in_0 6 rfl rfl)
theorem dX8_in_7 : decode cX8_in 7 = .ok (.if_icmp .gt 7, 3) := dk_163 0 7 (dk_at dksX8_in_0 7 rfl rfl)
theorem dX8_in_10 : decode cX8_in 10 = .ok (.iconst 1, 1) := dk_4 (dk_at dksX8_in_0 10 rfl rfl)
theorem dX8_in_11 : decode cX8_in 11 = .ok (.goto 4, 3) := dk_167 0 4 (dk_at dksX8_in_0 11 rfl rfl)
theorem dX8_in_14 : decode cX8_in 14 = .ok (.iconst 0, 1) := dk_3 (dk_at dksX8_in_0 14 rfl rfl)
theorem dX8_in_15 : decode cX8_in 15 = .ok (.ireturn, 1) := dk_172 (dk_at dksX8_in_0 15 rfl rfl)
abbrev cX8_bad : ByteArray := prog_30_method_4_code
def yX8_bad : MethodName := ⟨RX8, "bad", "(ZII)Z"⟩
def dkwX8_bad_1 : List UInt8 := [96, 79, 42, 180, 0, 106, 153, 0, 7, 4, 167, 0, 4, 3, 172]
abbrev dktX8_bad_1 : List UInt8 := dkwX8_bad_1 ++ []
def dkwX8_bad_0 : List UInt8 := [27, 153, 0, 25, 42, 180, 0, 106, 154, 0, 18, 42, 28, 181, 0, 106, 42, 180, 0, 17, 29, 92, 46, 4]
abbrev dktX8_bad_0 : List UInt8 := dkwX8_bad_0 ++ dktX8_bad_1
theorem dksX8_bad_0 : cX8_bad.data.toList.drop 0 = dktX8_bad_0 := by decide +kernel
theorem dksX8_bad_1 : cX8_bad.data.toList.drop 24 = dktX8_bad_1 := dk_seg dksX8_bad_0 24 rfl rfl
theorem dX8_bad_0 : decode cX8_bad 0 = .ok (.iload_n 1, 1) := dk_27 (dk_at dksX8_bad_0 0 rfl rfl)
theorem dX8_bad_1 : decode cX8_bad 1 = .ok (.ifCond .eq 25, 3) := dk_153 0 25 (dk_at dksX8_bad_0 1 rfl rfl)
theorem dX8_bad_4 : decode cX8_bad 4 = .ok (.aload_n 0, 1) := dk_42 (dk_at dksX8_bad_0 4 rfl rfl)
theorem dX8_bad_5 : decode cX8_bad 5 = .ok (.getfield 106, 3) := dk_180 0 106 (dk_at dksX8_bad_0 5 rfl rfl)
theorem dX8_bad_8 : decode cX8_bad 8 = .ok (.ifCond .ne 18, 3) := dk_154 0 18 (dk_at dksX8_bad_0 8 rfl rfl)
theorem dX8_bad_11 : decode cX8_bad 11 = .ok (.aload_n 0, 1) := dk_42 (dk_at dksX8_bad_0 11 rfl rfl)
theorem dX8_bad_12 : decode cX8_bad 12 = .ok (.iload_n 2, 1) := dk_28 (dk_at dksX8_bad_0 12 rfl rfl)
theorem dX8_bad_13 : decode cX8_bad 13 = .ok (.putfield 106, 3) := dk_181 0 106 (dk_at dksX8_bad_0 13 rfl rfl)
theorem dX8_bad_16 : decode cX8_bad 16 = .ok (.aload_n 0, 1) := dk_42 (dk_at dksX8_bad_0 16 rfl rfl)
theorem dX8_bad_17 : decode cX8_bad 17 = .ok (.getfield 17, 3) := dk_180 0 17 (dk_at dksX8_bad_0 17 rfl rfl)
theorem dX8_bad_20 : decode cX8_bad 20 = .ok (.iload_n 3, 1) := dk_29 (dk_at dksX8_bad_0 20 rfl rfl)
theorem dX8_bad_21 : decode cX8_bad 21 = .ok (.dup2, 1) := dk_92 (dk_at dksX8_bad_0 21 rfl rfl)
theorem dX8_bad_22 : decode cX8_bad 22 = .ok (.iaload, 1) := dk_46 (dk_at dksX8_bad_0 22 rfl rfl)
theorem dX8_bad_23 : decode cX8_bad 23 = .ok (.iconst 1, 1) := dk_4 (dk_at dksX8_bad_0 23 rfl rfl)
theorem dX8_bad_24 : decode cX8_bad 24 = .ok (.iadd, 1) := dk_96 (dk_at dksX8_bad_1 0 rfl rfl)
theorem dX8_bad_25 : decode cX8_bad 25 = .ok (.iastore, 1) := dk_79 (dk_at dksX8_bad_1 1 rfl rfl)
theorem dX8_bad_26 : decode cX8_bad 26 = .ok (.aload_n 0, 1) := dk_42 (dk_at dksX8_bad_1 2 rfl rfl)
theorem dX8_bad_27 : decode cX8_bad 27 = .ok (.getfield 106, 3) := dk_180 0 106 (dk_at dksX8_bad_1 3 rfl rfl)
theorem dX8_bad_30 : decode cX8_bad 30 = .ok (.ifCond .eq 7, 3) := dk_153 0 7 (dk_at dksX8_bad_1 6 rfl rfl)
theorem dX8_bad_33 : decode cX8_bad 33 = .ok (.iconst 1, 1) := dk_4 (dk_at dksX8_bad_1 9 rfl rfl)
theorem dX8_bad_34 : decode cX8_bad 34 = .ok (.goto 4, 3) := dk_167 0 4 (dk_at dksX8_bad_1 10 rfl rfl)
theorem dX8_bad_37 : decode cX8_bad 37 = .ok (.iconst 0, 1) := dk_3 (dk_at dksX8_bad_1 13 rfl rfl)
theorem dX8_bad_38 : decode cX8_bad 38 = .ok (.ireturn, 1) := dk_172 (dk_at dksX8_bad_1 14 rfl rfl)
abbrev cX8_starts : ByteArray := prog_30_method_23_code
def yX8_starts : MethodName := ⟨RX8, "starts", "(I)V"⟩
def dkwX8_starts_1 : List UInt8 := [181, 0, 125, 42, 3, 181, 0, 162, 42, 3, 181, 0, 165, 42, 182, 0, 128, 177]
abbrev dktX8_starts_1 : List UInt8 := dkwX8_starts_1 ++ []
def dkwX8_starts_0 : List UInt8 := [42, 3, 181, 0, 109, 42, 27, 181, 0, 112, 42, 3, 181, 0, 115, 42, 3, 181, 0, 122, 42, 2]
abbrev dktX8_starts_0 : List UInt8 := dkwX8_starts_0 ++ dktX8_starts_1
theorem dksX8_starts_0 : cX8_starts.data.toList.drop 0 = dktX8_starts_0 := by decide +kernel
theorem dksX8_starts_1 : cX8_starts.data.toList.drop 22 = dktX8_starts_1 := dk_seg dksX8_starts_0 22 rfl rfl
theorem dX8_starts_0 : decode cX8_starts 0 = .ok (.aload_n 0, 1) := dk_42 (dk_at dksX8_starts_0 0 rfl rfl)
theorem dX8_starts_1 : decode cX8_starts 1 = .ok (.iconst 0, 1) := dk_3 (dk_at dksX8_starts_0 1 rfl rfl)
theorem dX8_starts_2 : decode cX8_starts 2 = .ok (.putfield 109, 3) := dk_181 0 109 (dk_at dksX8_starts_0 2 rfl rfl)
theorem dX8_starts_5 : decode cX8_starts 5 = .ok (.aload_n 0, 1) := dk_42 (dk_at dksX8_starts_0 5 rfl rfl)
theorem dX8_starts_6 : decode cX8_starts 6 = .ok (.iload_n 1, 1) := dk_27 (dk_at dksX8_starts_0 6 rfl rfl)
theorem dX8_starts_7 : decode cX8_starts 7 = .ok (.putfield 112, 3) := dk_181 0 112 (dk_at dksX8_starts_0 7 rfl rfl)
theorem dX8_starts_10 : decode cX8_starts 10 = .ok (.aload_n 0, 1) := dk_42 (dk_at dksX8_starts_0 10 rfl rfl)
theorem dX8_starts_11 : decode cX8_starts 11 = .ok (.iconst 0, 1) := dk_3 (dk_at dksX8_starts_0 11 rfl rfl)
theorem dX8_starts_12 : decode cX8_starts 12 = .ok (.putfield 115, 3) := dk_181 0 115 (dk_at dksX8_starts_0 12 rfl rfl)
theorem dX8_starts_15 : decode cX8_starts 15 = .ok (.aload_n 0, 1) := dk_42 (dk_at dksX8_starts_0 15 rfl rfl)
theorem dX8_starts_16 : decode cX8_starts 16 = .ok (.iconst 0, 1) := dk_3 (dk_at dksX8_starts_0 16 rfl rfl)
theorem dX8_starts_17 : decode cX8_starts 17 = .ok (.putfield 122, 3) := dk_181 0 122 (dk_at dksX8_starts_0 17 rfl rfl)
theorem dX8_starts_20 : decode cX8_starts 20 = .ok (.aload_n 0, 1) := dk_42 (dk_at dksX8_starts_0 20 rfl rfl)
theorem dX8_starts_21 : decode cX8_starts 21 = .ok (.iconst (-1), 1) := dk_2 (dk_at dksX8_starts_0 21 rfl rfl)
theorem dX8_starts_22 : decode cX8_starts 22 = .ok (.putfield 125, 3) := dk_181 0 125 (dk_at dksX8_starts_1 0 rfl rfl)
theorem dX8_starts_25 : decode cX8_starts 25 = .ok (.aload_n 0, 1) := dk_42 (dk_at dksX8_starts_1 3 rfl rfl)
theorem dX8_starts_26 : decode cX8_starts 26 = .ok (.iconst 0, 1) := dk_3 (dk_at dksX8_starts_1 4 rfl rfl)
theorem dX8_starts_27 : decode cX8_starts 27 = .ok (.putfield 162, 3) := dk_181 0 162 (dk_at dksX8_starts_1 5 rfl rfl)
theorem dX8_starts_30 : decode cX8_starts 30 = .ok (.aload_n 0, 1) := dk_42 (dk_at dksX8_starts_1 8 rfl rfl)
theorem dX8_starts_31 : decode cX8_starts 31 = .ok (.iconst 0, 1) := dk_3 (dk_at dksX8_starts_1 9 rfl rfl)
theorem dX8_starts_32 : decode cX8_starts 32 = .ok (.putfield 165, 3) := dk_181 0 165 (dk_at dksX8_starts_1 10 rfl rfl)
theorem dX8_starts_35 : decode cX8_starts 35 = .ok (.aload_n 0, 1) := dk_42 (dk_at dksX8_starts_1 13 rfl rfl)
theorem dX8_starts_36 : decode cX8_starts 36 = .ok (.invokevirtual 128, 3) := dk_182 0 128 (dk_at dksX8_starts_1 14 rfl rfl)
theorem dX8_starts_39 : decode cX8_starts 39 = .ok (.return_, 1) := dk_177 (dk_at dksX8_starts_1 17 rfl rfl)
abbrev cX8_blanks : ByteArray := prog_30_method_11_code
def yX8_blanks : MethodName := ⟨RX8, "blanks", "()V"⟩
def dkwX8_blanks_1 : List UInt8 := [167, 255, 233, 177]
abbrev dktX8_blanks_1 : List UInt8 := dkwX8_blanks_1 ++ []
def dkwX8_blanks_0 : List UInt8 := [42, 42, 180, 0, 115, 182, 0, 118, 16, 32, 160, 0, 16, 42, 89, 180, 0, 115, 4, 96, 181, 0, 115]
abbrev dktX8_blanks_0 : List UInt8 := dkwX8_blanks_0 ++ dktX8_blanks_1
theorem dksX8_blanks_0 : cX8_blanks.data.toList.drop 0 = dktX8_blanks_0 := by decide +kernel
theorem dksX8_blanks_1 : cX8_blanks.data.toList.drop 23 = dktX8_blanks_1 := dk_seg dksX8_blanks_0 23 rfl rfl
theorem dX8_blanks_0 : decode cX8_blanks 0 = .ok (.aload_n 0, 1) := dk_42 (dk_at dksX8_blanks_0 0 rfl rfl)
theorem dX8_blanks_1 : decode cX8_blanks 1 = .ok (.aload_n 0, 1) := dk_42 (dk_at dksX8_blanks_0 1 rfl rfl)
theorem dX8_blanks_2 : decode cX8_blanks 2 = .ok (.getfield 115, 3) := dk_180 0 115 (dk_at dksX8_blanks_0 2 rfl rfl)
theorem dX8_blanks_5 : decode cX8_blanks 5 = .ok (.invokevirtual 118, 3) := dk_182 0 118 (dk_at dksX8_blanks_0 5 rfl rfl)
theorem dX8_blanks_8 : decode cX8_blanks 8 = .ok (.bipush 32, 2) := dk_16 32 (dk_at dksX8_blanks_0 8 rfl rfl)
theorem dX8_blanks_10 : decode cX8_blanks 10 = .ok (.if_icmp .ne 16, 3) := dk_160 0 16 (dk_at dksX8_blanks_0 10 rfl rfl)
theorem dX8_blanks_13 : decode cX8_blanks 13 = .ok (.aload_n 0, 1) := dk_42 (dk_at dksX8_blanks_0 13 rfl rfl)
theorem dX8_blanks_14 : decode cX8_blanks 14 = .ok (.dup, 1) := dk_89 (dk_at dksX8_blanks_0 14 rfl rfl)
theorem dX8_blanks_15 : decode cX8_blanks 15 = .ok (.getfield 115, 3) := dk_180 0 115 (dk_at dksX8_blanks_0 15 rfl rfl)
theorem dX8_blanks_18 : decode cX8_blanks 18 = .ok (.iconst 1, 1) := dk_4 (dk_at dksX8_blanks_0 18 rfl rfl)
theorem dX8_blanks_19 : decode cX8_blanks 19 = .ok (.iadd, 1) := dk_96 (dk_at dksX8_blanks_0 19 rfl rfl)
theorem dX8_blanks_20 : decode cX8_blanks 20 = .ok (.putfield 115, 3) := dk_181 0 115 (dk_at dksX8_blanks_0 20 rfl rfl)
theorem dX8_blanks_23 : decode cX8_blanks 23 = .ok (.goto (-23), 3) := dk_167 255 233 (dk_at dksX8_blanks_1 0 rfl rfl)
theorem dX8_blanks_26 : decode cX8_blanks 26 = .ok (.return_, 1) := dk_177 (dk_at dksX8_blanks_1 3 rfl rfl)
abbrev cX8_byteAt : ByteArray := prog_30_method_10_code
def yX8_byteAt : MethodName := ⟨RX8, "byteAt", "(I)I"⟩
def dkwX8_byteAt_0 : List UInt8 := [27, 42, 180, 0, 112, 161, 0, 7, 2, 167, 0, 9, 42, 180, 0, 13, 27, 46, 172]
abbrev dktX8_byteAt_0 : List UInt8 := dkwX8_byteAt_0 ++ []
theorem dksX8_byteAt_0 : cX8_byteAt.data.toList.drop 0 = dktX8_byteAt_0 := by decide +kernel
theorem dX8_byteAt_0 : decode cX8_byteAt 0 = .ok (.iload_n 1, 1) := dk_27 (dk_at dksX8_byteAt_0 0 rfl rfl)
theorem dX8_byteAt_1 : decode cX8_byteAt 1 = .ok (.aload_n 0, 1) := dk_42 (dk_at dksX8_byteAt_0 1 rfl rfl)
theorem dX8_byteAt_2 : decode cX8_byteAt 2 = .ok (.getfield 112, 3) := dk_180 0 112 (dk_at dksX8_byteAt_0 2 rfl rfl)
theorem dX8_byteAt_5 : decode cX8_byteAt 5 = .ok (.if_icmp .lt 7, 3) := dk_161 0 7 (dk_at dksX8_byteAt_0 5 rfl rfl)
theorem dX8_byteAt_8 : decode cX8_byteAt 8 = .ok (.iconst (-1), 1) := dk_2 (dk_at dksX8_byteAt_0 8 rfl rfl)
theorem dX8_byteAt_9 : decode cX8_byteAt 9 = .ok (.goto 9, 3) := dk_167 0 9 (dk_at dksX8_byteAt_0 9 rfl rfl)
theorem dX8_byteAt_12 : decode cX8_byteAt 12 = .ok (.aload_n 0, 1) := dk_42 (dk_at dksX8_byteAt_0 12 rfl rfl)
theorem dX8_byteAt_13 : decode cX8_byteAt 13 = .ok (.getfield 13, 3) := dk_180 0 13 (dk_at dksX8_byteAt_0 13 rfl rfl)
theorem dX8_byteAt_16 : decode cX8_byteAt 16 = .ok (.iload_n 1, 1) := dk_27 (dk_at dksX8_byteAt_0 16 rfl rfl)
theorem dX8_byteAt_17 : decode cX8_byteAt 17 = .ok (.iaload, 1) := dk_46 (dk_at dksX8_byteAt_0 17 rfl rfl)
theorem dX8_byteAt_18 : decode cX8_byteAt 18 = .ok (.ireturn, 1) := dk_172 (dk_at dksX8_byteAt_0 18 rfl rfl)
abbrev cX8_clause : ByteArray := prog_30_method_29_code
def yX8_clause : MethodName := ⟨RX8, "clause", "()V"⟩
def dkwX8_clause_15 : List UInt8 := [96, 79, 177]
abbrev dktX8_clause_15 : List UInt8 := dkwX8_clause_15 ++ []
def dkwX8_clause_14 : List UInt8 := [27, 6, 162, 0, 24, 42, 180, 0, 20, 27, 92, 46, 42, 180, 0, 122, 154, 0, 7, 4, 167, 0, 4, 3]
abbrev dktX8_clause_14 : List UInt8 := dkwX8_clause_14 ++ dktX8_clause_15
def dkwX8_clause_13 : List UInt8 := [42, 180, 0, 122, 154, 0, 14, 42, 180, 0, 32, 29, 21, 4, 79, 167, 0, 3, 42, 16, 59, 182, 0, 185]
abbrev dktX8_clause_13 : List UInt8 := dkwX8_clause_13 ++ dktX8_clause_14
def dkwX8_clause_12 : List UInt8 := [42, 180, 0, 20, 6, 29, 79, 167, 0, 35, 42, 182, 0, 178, 62, 42, 3, 16, 9, 182, 0, 168, 54, 4]
abbrev dktX8_clause_12 : List UInt8 := dkwX8_clause_12 ++ dktX8_clause_13
def dkwX8_clause_11 : List UInt8 := [16, 9, 182, 0, 168, 79, 167, 0, 60, 42, 3, 16, 40, 182, 0, 168, 62, 42, 180, 0, 122, 154, 0, 45]
abbrev dktX8_clause_11 : List UInt8 := dkwX8_clause_11 ++ dktX8_clause_12
def dkwX8_clause_10 : List UInt8 := [180, 0, 46, 28, 50, 3, 42, 3, 16, 9, 182, 0, 168, 79, 42, 180, 0, 46, 28, 50, 4, 42, 4]
abbrev dktX8_clause_10 : List UInt8 := dkwX8_clause_10 ++ dktX8_clause_11
def dkwX8_clause_9 : List UInt8 := [180, 0, 40, 28, 50, 3, 29, 79, 42, 180, 0, 40, 28, 50, 4, 21, 5, 79, 167, 0, 93, 42]
abbrev dktX8_clause_9 : List UInt8 := dkwX8_clause_9 ++ dktX8_clause_10
def dkwX8_clause_8 : List UInt8 := [21, 5, 159, 0, 13, 42, 29, 21, 5, 182, 0, 181, 153, 0, 10, 42, 5, 21, 4, 182, 0, 135, 42]
abbrev dktX8_clause_8 : List UInt8 := dkwX8_clause_8 ++ dktX8_clause_9
def dkwX8_clause_7 : List UInt8 := [182, 0, 128, 42, 180, 0, 115, 54, 4, 42, 182, 0, 178, 54, 5, 42, 180, 0, 122, 154, 0, 26, 29]
abbrev dktX8_clause_7 : List UInt8 := dkwX8_clause_7 ++ dktX8_clause_8
def dkwX8_clause_6 : List UInt8 := [42, 180, 0, 26, 28, 42, 3, 16, 9, 182, 0, 168, 79, 167, 0, 166, 42, 182, 0, 178, 62, 42]
abbrev dktX8_clause_6 : List UInt8 := dkwX8_clause_6 ++ dktX8_clause_7
def dkwX8_clause_5 : List UInt8 := [170, 0, 0, 0, 0, 0, 178, 0, 0, 0, 0, 0, 0, 0, 3, 0, 0, 0, 31, 0, 0, 0, 47, 0, 0, 0, 120, 0, 0, 0, 153]
abbrev dktX8_clause_5 : List UInt8 := dkwX8_clause_5 ++ dktX8_clause_6
def dkwX8_clause_4 : List UInt8 := [3, 61, 27]
abbrev dktX8_clause_4 : List UInt8 := dkwX8_clause_4 ++ dktX8_clause_5
def dkwX8_clause_3 : List UInt8 := [42, 89, 180, 0, 162, 4, 96, 181, 0, 162, 27, 6, 162, 0, 12, 42, 180, 0, 20, 27, 46, 167, 0, 4]
abbrev dktX8_clause_3 : List UInt8 := dkwX8_clause_3 ++ dktX8_clause_4
def dkwX8_clause_2 : List UInt8 := [160, 0, 12, 42, 6, 42, 180, 0, 115, 182, 0, 135, 42, 180, 0, 122, 153, 0, 4, 177, 42, 182, 0, 159]
abbrev dktX8_clause_2 : List UInt8 := dkwX8_clause_2 ++ dktX8_clause_3
def dkwX8_clause_1 : List UInt8 := [180, 0, 162, 16, 60, 159, 0, 21, 27, 6, 162, 0, 25, 42, 180, 0, 20, 27, 46, 27, 184, 0, 175]
abbrev dktX8_clause_1 : List UInt8 := dkwX8_clause_1 ++ dktX8_clause_2
def dkwX8_clause_0 : List UInt8 := [42, 182, 0, 172, 60, 27, 2, 160, 0, 15, 42, 4, 42, 180, 0, 115, 182, 0, 135, 167, 0, 39, 42]
abbrev dktX8_clause_0 : List UInt8 := dkwX8_clause_0 ++ dktX8_clause_1
theorem dksX8_clause_0 : cX8_clause.data.toList.drop 0 = dktX8_clause_0 := by decide +kernel
theorem dksX8_clause_1 : cX8_clause.data.toList.drop 23 = dktX8_clause_1 := dk_seg dksX8_clause_0 23 rfl rfl
theorem dksX8_clause_2 : cX8_clause.data.toList.drop 46 = dktX8_clause_2 := dk_seg dksX8_clause_1 23 rfl rfl
theorem dksX8_clause_3 : cX8_clause.data.toList.drop 70 = dktX8_clause_3 := dk_seg dksX8_clause_2 24 rfl rfl
theorem dksX8_clause_4 : cX8_clause.data.toList.drop 94 = dktX8_clause_4 := dk_seg dksX8_clause_3 24 rfl rfl
theorem dksX8_clause_5 : cX8_clause.data.toList.drop 97 = dktX8_clause_5 := dk_seg dksX8_clause_4 3 rfl rfl
theorem dksX8_clause_6 : cX8_clause.data.toList.drop 128 = dktX8_clause_6 := dk_seg dksX8_clause_5 31 rfl rfl
theorem dksX8_clause_7 : cX8_clause.data.toList.drop 150 = dktX8_clause_7 := dk_seg dksX8_clause_6 22 rfl rfl
theorem dksX8_clause_8 : cX8_clause.data.toList.drop 173 = dktX8_clause_8 := dk_seg dksX8_clause_7 23 rfl rfl
theorem dksX8_clause_9 : cX8_clause.data.toList.drop 196 = dktX8_clause_9 := dk_seg dksX8_clause_8 23 rfl rfl
theorem dksX8_clause_10 : cX8_clause.data.toList.drop 218 = dktX8_clause_10 := dk_seg dksX8_clause_9 22 rfl rfl
theorem dksX8_clause_11 : cX8_clause.data.toList.drop 241 = dktX8_clause_11 := dk_seg dksX8_clause_10 23 rfl rfl
theorem dksX8_clause_12 : cX8_clause.data.toList.drop 265 = dktX8_clause_12 := dk_seg dksX8_clause_11 24 rfl rfl
theorem dksX8_clause_13 : cX8_clause.data.toList.drop 289 = dktX8_clause_13 := dk_seg dksX8_clause_12 24 rfl rfl
theorem dksX8_clause_14 : cX8_clause.data.toList.drop 313 = dktX8_clause_14 := dk_seg dksX8_clause_13 24 rfl rfl
theorem dksX8_clause_15 : cX8_clause.data.toList.drop 337 = dktX8_clause_15 := dk_seg dksX8_clause_14 24 rfl rfl
theorem dX8_clause_0 : decode cX8_clause 0 = .ok (.aload_n 0, 1) := dk_42 (dk_at dksX8_clause_0 0 rfl rfl)
theorem dX8_clause_1 : decode cX8_clause 1 = .ok (.invokevirtual 172, 3) := dk_182 0 172 (dk_at dksX8_clause_0 1 rfl rfl)
theorem dX8_clause_4 : decode cX8_clause 4 = .ok (.istore_n 1, 1) := dk_60 (dk_at dksX8_clause_0 4 rfl rfl)
theorem dX8_clause_5 : decode cX8_clause 5 = .ok (.iload_n 1, 1) := dk_27 (dk_at dksX8_clause_0 5 rfl rfl)
theorem dX8_clause_6 : decode cX8_clause 6 = .ok (.iconst (-1), 1) := dk_2 (dk_at dksX8_clause_0 6 rfl rfl)
theorem dX8_clause_7 : decode cX8_clause 7 = .ok (.if_icmp .ne 15, 3) := dk_160 0 15 (dk_at dksX8_clause_0 7 rfl rfl)
theorem dX8_clause_10 : decode cX8_clause 10 = .ok (.aload_n 0, 1) := dk_42 (dk_at dksX8_clause_0 10 rfl rfl)
theorem dX8_clause_11 : decode cX8_clause 11 = .ok (.iconst 1, 1) := dk_4 (dk_at dksX8_clause_0 11 rfl rfl)
theorem dX8_clause_12 : decode cX8_clause 12 = .ok (.aload_n 0, 1) := dk_42 (dk_at dksX8_clause_0 12 rfl rfl)
theorem dX8_clause_13 : decode cX8_clause 13 = .ok (.getfield 115, 3) := dk_180 0 115 (dk_at dksX8_clause_0 13 rfl rfl)
theorem dX8_clause_16 : decode cX8_clause 16 = .ok (.invokevirtual 135, 3) := dk_182 0 135 (dk_at dksX8_clause_0 16 rfl rfl)
theorem dX8_clause_19 : decode cX8_clause 19 = .ok (.goto 39, 3) := dk_167 0 39 (dk_at dksX8_clause_0 19 rfl rfl)
theorem dX8_clause_22 : decode cX8_clause 22 = .ok (.aload_n 0, 1) := dk_42 (dk_at dksX8_clause_0 22 rfl rfl)
theorem dX8_clause_23 : decode cX8_clause 23 = .ok (.getfield 162, 3) := dk_180 0 162 (dk_at dksX8_clause_1 0 rfl rfl)
theorem dX8_clause_26 : decode cX8_clause 26 = .ok (.bipush 60, 2) := dk_16 60 (dk_at dksX8_clause_1 3 rfl rfl)
theorem dX8_clause_28 : decode cX8_clause 28 = .ok (.if_icmp .eq 21, 3) := dk_159 0 21 (dk_at dksX8_clause_1 5 rfl rfl)
theorem dX8_clause_31 : decode cX8_clause 31 = .ok (.iload_n 1, 1) := dk_27 (dk_at dksX8_clause_1 8 rfl rfl)
theorem dX8_clause_32 : decode cX8_clause 32 = .ok (.iconst 3, 1) := dk_6 (dk_at dksX8_clause_1 9 rfl rfl)
theorem dX8_clause_33 : decode cX8_clause 33 = .ok (.if_icmp .ge 25, 3) := dk_162 0 25 (dk_at dksX8_clause_1 10 rfl rfl)
theorem dX8_clause_36 : decode cX8_clause 36 = .ok (.aload_n 0, 1) := dk_42 (dk_at dksX8_clause_1 13 rfl rfl)
theorem dX8_clause_37 : decode cX8_clause 37 = .ok (.getfield 20, 3) := dk_180 0 20 (dk_at dksX8_clause_1 14 rfl rfl)
theorem dX8_clause_40 : decode cX8_clause 40 = .ok (.iload_n 1, 1) := dk_27 (dk_at dksX8_clause_1 17 rfl rfl)
theorem dX8_clause_41 : decode cX8_clause 41 = .ok (.iaload, 1) := dk_46 (dk_at dksX8_clause_1 18 rfl rfl)
theorem dX8_clause_42 : decode cX8_clause 42 = .ok (.iload_n 1, 1) := dk_27 (dk_at dksX8_clause_1 19 rfl rfl)
theorem dX8_clause_43 : decode cX8_clause 43 = .ok (.invokestatic 175, 3) := dk_184 0 175 (dk_at dksX8_clause_1 20 rfl rfl)
theorem dX8_clause_46 : decode cX8_clause 46 = .ok (.if_icmp .ne 12, 3) := dk_160 0 12 (dk_at dksX8_clause_2 0 rfl rfl)
theorem dX8_clause_49 : decode cX8_clause 49 = .ok (.aload_n 0, 1) := dk_42 (dk_at dksX8_clause_2 3 rfl rfl)
theorem dX8_clause_50 : decode cX8_clause 50 = .ok (.iconst 3, 1) := dk_6 (dk_at dksX8_clause_2 4 rfl rfl)
theorem dX8_clause_51 : decode cX8_clause 51 = .ok (.aload_n 0, 1) := dk_42 (dk_at dksX8_clause_2 5 rfl rfl)
theorem dX8_clause_52 : decode cX8_clause 52 = .ok (.getfield 115, 3) := dk_180 0 115 (dk_at dksX8_clause_2 6 rfl rfl)
theorem dX8_clause_55 : decode cX8_clause 55 = .ok (.invokevirtual 135, 3) := dk_182 0 135 (dk_at dksX8_clause_2 9 rfl rfl)
theorem dX8_clause_58 : decode cX8_clause 58 = .ok (.aload_n 0, 1) := dk_42 (dk_at dksX8_clause_2 12 rfl rfl)
theorem dX8_clause_59 : decode cX8_clause 59 = .ok (.getfield 122, 3) := dk_180 0 122 (dk_at dksX8_clause_2 13 rfl rfl)
theorem dX8_clause_62 : decode cX8_clause 62 = .ok (.ifCond .eq 4, 3) := dk_153 0 4 (dk_at dksX8_clause_2 16 rfl rfl)
theorem dX8_clause_65 : decode cX8_clause 65 = .ok (.return_, 1) := dk_177 (dk_at dksX8_clause_2 19 rfl rfl)
theorem dX8_clause_66 : decode cX8_clause 66 = .ok (.aload_n 0, 1) := dk_42 (dk_at dksX8_clause_2 20 rfl rfl)
theorem dX8_clause_67 : decode cX8_clause 67 = .ok (.invokevirtual 159, 3) := dk_182 0 159 (dk_at dksX8_clause_2 21 rfl rfl)
theorem dX8_clause_70 : decode cX8_clause 70 = .ok (.aload_n 0, 1) := dk_42 (dk_at dksX8_clause_3 0 rfl rfl)
theorem dX8_clause_71 : decode cX8_clause 71 = .ok (.dup, 1) := dk_89 (dk_at dksX8_clause_3 1 rfl rfl)
theorem dX8_clause_72 : decode cX8_clause 72 = .ok (.getfield 162, 3) := dk_180 0 162 (dk_at dksX8_clause_3 2 rfl rfl)
theorem dX8_clause_75 : decode cX8_clause 75 = .ok (.iconst 1, 1) := dk_4 (dk_at dksX8_clause_3 5 rfl rfl)
theorem dX8_clause_76 : decode cX8_clause 76 = .ok (.iadd, 1) := dk_96 (dk_at dksX8_clause_3 6 rfl rfl)
theorem dX8_clause_77 : decode cX8_clause 77 = .ok (.putfield 162, 3) := dk_181 0 162 (dk_at dksX8_clause_3 7 rfl rfl)
theorem dX8_clause_80 : decode cX8_clause 80 = .ok (.iload_n 1, 1) := dk_27 (dk_at dksX8_clause_3 10 rfl rfl)
theorem dX8_clause_81 : decode cX8_clause 81 = .ok (.iconst 3, 1) := dk_6 (dk_at dksX8_clause_3 11 rfl rfl)
theorem dX8_clause_82 : decode cX8_clause 82 = .ok (.if_icmp .ge 12, 3) := dk_162 0 12 (dk_at dksX8_clause_3 12 rfl rfl)
theorem dX8_clause_85 : decode cX8_clause 85 = .ok (.aload_n 0, 1) := dk_42 (dk_at dksX8_clause_3 15 rfl rfl)
theorem dX8_clause_86 : decode cX8_clause 86 = .ok (.getfield 20, 3) := dk_180 0 20 (dk_at dksX8_clause_3 16 rfl rfl)
theorem dX8_clause_89 : decode cX8_clause 89 = .ok (.iload_n 1, 1) := dk_27 (dk_at dksX8_clause_3 19 rfl rfl)
theorem dX8_clause_90 : decode cX8_clause 90 = .ok (.iaload, 1) := dk_46 (dk_at dksX8_clause_3 20 rfl rfl)
theorem dX8_clause_91 : decode cX8_clause 91 = .ok (.goto 4, 3) := dk_167 0 4 (dk_at dksX8_clause_3 21 rfl rfl)
theorem dX8_clause_94 : decode cX8_clause 94 = .ok (.iconst 0, 1) := dk_3 (dk_at dksX8_clause_4 0 rfl rfl)
theorem dX8_clause_95 : decode cX8_clause 95 = .ok (.istore_n 2, 1) := dk_61 (dk_at dksX8_clause_4 1 rfl rfl)
theorem dX8_clause_96 : decode cX8_clause 96 = .ok (.iload_n 1, 1) := dk_27 (dk_at dksX8_clause_4 2 rfl rfl)
theorem dX8_clause_97 : decode cX8_clause 97 = .ok (.tableswitch 178 0 3 #[31, 47, 120, 153], 31) := by decide +kernel
theorem dX8_clause_128 : decode cX8_clause 128 = .ok (.aload_n 0, 1) := dk_42 (dk_at dksX8_clause_6 0 rfl rfl)
theorem dX8_clause_129 : decode cX8_clause 129 = .ok (.getfield 26, 3) := dk_180 0 26 (dk_at dksX8_clause_6 1 rfl rfl)
theorem dX8_clause_132 : decode cX8_clause 132 = .ok (.iload_n 2, 1) := dk_28 (dk_at dksX8_clause_6 4 rfl rfl)
theorem dX8_clause_133 : decode cX8_clause 133 = .ok (.aload_n 0, 1) := dk_42 (dk_at dksX8_clause_6 5 rfl rfl)
theorem dX8_clause_134 : decode cX8_clause 134 = .ok (.iconst 0, 1) := dk_3 (dk_at dksX8_clause_6 6 rfl rfl)
theorem dX8_clause_135 : decode cX8_clause 135 = .ok (.bipush 9, 2) := dk_16 9 (dk_at dksX8_clause_6 7 rfl rfl)
theorem dX8_clause_137 : decode cX8_clause 137 = .ok (.invokevirtual 168, 3) := dk_182 0 168 (dk_at dksX8_clause_6 9 rfl rfl)
theorem dX8_clause_140 : decode cX8_clause 140 = .ok (.iastore, 1) := dk_79 (dk_at dksX8_clause_6 12 rfl rfl)
theorem dX8_clause_141 : decode cX8_clause 141 = .ok (.goto 166, 3) := dk_167 0 166 (dk_at dksX8_clause_6 13 rfl rfl)
theorem dX8_clause_144 : decode cX8_clause 144 = .ok (.aload_n 0, 1) := dk_42 (dk_at dksX8_clause_6 16 rfl rfl)
theorem dX8_clause_145 : decode cX8_clause 145 = .ok (.invokevirtual 178, 3) := dk_182 0 178 (dk_at dksX8_clause_6 17 rfl rfl)
theorem dX8_clause_148 : decode cX8_clause 148 = .ok (.istore_n 3, 1) := dk_62 (dk_at dksX8_clause_6 20 rfl rfl)
theorem dX8_clause_149 : decode cX8_clause 149 = .ok (.aload_n 0, 1) := dk_42 (dk_at dksX8_clause_6 21 rfl rfl)
theorem dX8_clause_150 : decode cX8_clause 150 = .ok (.invokevirtual 128, 3) := dk_182 0 128 (dk_at dksX8_clause_7 0 rfl rfl)
theorem dX8_clause_153 : decode cX8_clause 153 = .ok (.aload_n 0, 1) := dk_42 (dk_at dksX8_clause_7 3 rfl rfl)
theorem dX8_clause_154 : decode cX8_clause 154 = .ok (.getfield 115, 3) := dk_180 0 115 (dk_at dksX8_clause_7 4 rfl rfl)
theorem dX8_clause_157 : decode cX8_clause 157 = .ok (.istore 4, 2) := dk_54 4 (dk_at dksX8_clause_7 7 rfl rfl)
theorem dX8_clause_159 : decode cX8_clause 159 = .ok (.aload_n 0, 1) := dk_42 (dk_at dksX8_clause_7 9 rfl rfl)
theorem dX8_clause_160 : decode cX8_clause 160 = .ok (.invokevirtual 178, 3) := dk_182 0 178 (dk_at dksX8_clause_7 10 rfl rfl)
theorem dX8_clause_163 : decode cX8_clause 163 = .ok (.istore 5, 2) := dk_54 5 (dk_at dksX8_clause_7 13 rfl rfl)
theorem dX8_clause_165 : decode cX8_clause 165 = .ok (.aload_n 0, 1) := dk_42 (dk_at dksX8_clause_7 15 rfl rfl)
theorem dX8_clause_166 : decode cX8_clause 166 = .ok (.getfield 122, 3) := dk_180 0 122 (dk_at dksX8_clause_7 16 rfl rfl)
theorem dX8_clause_169 : decode cX8_clause 169 = .ok (.ifCond .ne 26, 3) := dk_154 0 26 (dk_at dksX8_clause_7 19 rfl rfl)
theorem dX8_clause_172 : decode cX8_clause 172 = .ok (.iload_n 3, 1) := dk_29 (dk_at dksX8_clause_7 22 rfl rfl)
theorem dX8_clause_173 : decode cX8_clause 173 = .ok (.iload 5, 2) := dk_21 5 (dk_at dksX8_clause_8 0 rfl rfl)
theorem dX8_clause_175 : decode cX8_clause 175 = .ok (.if_icmp .eq 13, 3) := dk_159 0 13 (dk_at dksX8_clause_8 2 rfl rfl)
theorem dX8_clause_178 : decode cX8_clause 178 = .ok (.aload_n 0, 1) := dk_42 (dk_at dksX8_clause_8 5 rfl rfl)
theorem dX8_clause_179 : decode cX8_clause 179 = .ok (.iload_n 3, 1) := dk_29 (dk_at dksX8_clause_8 6 rfl rfl)
theorem dX8_clause_180 : decode cX8_clause 180 = .ok (.iload 5, 2) := dk_21 5 (dk_at dksX8_clause_8 7 rfl rfl)
theorem dX8_clause_182 : decode cX8_clause 182 = .ok (.invokevirtual 181, 3) := dk_182 0 181 (dk_at dksX8_clause_8 9 rfl rfl)
theorem dX8_clause_185 : decode cX8_clause 185 = .ok (.ifCond .eq 10, 3) := dk_153 0 10 (dk_at dksX8_clause_8 12 rfl rfl)
theorem dX8_clause_188 : decode cX8_clause 188 = .ok (.aload_n 0, 1) := dk_42 (dk_at dksX8_clause_8 15 rfl rfl)
theorem dX8_clause_189 : decode cX8_clause 189 = .ok (.iconst 2, 1) := dk_5 (dk_at dksX8_clause_8 16 rfl rfl)
theorem dX8_clause_190 : decode cX8_clause 190 = .ok (.iload 4, 2) := dk_21 4 (dk_at dksX8_clause_8 17 rfl rfl)
theorem dX8_clause_192 : decode cX8_clause 192 = .ok (.invokevirtual 135, 3) := dk_182 0 135 (dk_at dksX8_clause_8 19 rfl rfl)
theorem dX8_clause_195 : decode cX8_clause 195 = .ok (.aload_n 0, 1) := dk_42 (dk_at dksX8_clause_8 22 rfl rfl)
theorem dX8_clause_196 : decode cX8_clause 196 = .ok (.getfield 40, 3) := dk_180 0 40 (dk_at dksX8_clause_9 0 rfl rfl)
theorem dX8_clause_199 : decode cX8_clause 199 = .ok (.iload_n 2, 1) := dk_28 (dk_at dksX8_clause_9 3 rfl rfl)
theorem dX8_clause_200 : decode cX8_clause 200 = .ok (.aaload, 1) := dk_50 (dk_at dksX8_clause_9 4 rfl rfl)
theorem dX8_clause_201 : decode cX8_clause 201 = .ok (.iconst 0, 1) := dk_3 (dk_at dksX8_clause_9 5 rfl rfl)
theorem dX8_clause_202 : decode cX8_clause 202 = .ok (.iload_n 3, 1) := dk_29 (dk_at dksX8_clause_9 6 rfl rfl)
theorem dX8_clause_203 : decode cX8_clause 203 = .ok (.iastore, 1) := dk_79 (dk_at dksX8_clause_9 7 rfl rfl)
theorem dX8_clause_204 : decode cX8_clause 204 = .ok (.aload_n 0, 1) := dk_42 (dk_at dksX8_clause_9 8 rfl rfl)
theorem dX8_clause_205 : decode cX8_clause 205 = .ok (.getfield 40, 3) := dk_180 0 40 (dk_at dksX8_clause_9 9 rfl rfl)
theorem dX8_clause_208 : decode cX8_clause 208 = .ok (.iload_n 2, 1) := dk_28 (dk_at dksX8_clause_9 12 rfl rfl)
theorem dX8_clause_209 : decode cX8_clause 209 = .ok (.aaload, 1) := dk_50 (dk_at dksX8_clause_9 13 rfl rfl)
theorem dX8_clause_210 : decode cX8_clause 210 = .ok (.iconst 1, 1) := dk_4 (dk_at dksX8_clause_9 14 rfl rfl)
theorem dX8_clause_211 : decode cX8_clause 211 = .ok (.iload 5, 2) := dk_21 5 (dk_at dksX8_clause_9 15 rfl rfl)
theorem dX8_clause_213 : decode cX8_clause 213 = .ok (.iastore, 1) := dk_79 (dk_at dksX8_clause_9 17 rfl rfl)
theorem dX8_clause_214 : decode cX8_clause 214 = .ok (.goto 93, 3) := dk_167 0 93 (dk_at dksX8_clause_9 18 rfl rfl)
theorem dX8_clause_217 : decode cX8_clause 217 = .ok (.aload_n 0, 1) := dk_42 (dk_at dksX8_clause_9 21 rfl rfl)
theorem dX8_clause_218 : decode cX8_clause 218 = .ok (.getfield 46, 3) := dk_180 0 46 (dk_at dksX8_clause_10 0 rfl rfl)
theorem dX8_clause_221 : decode cX8_clause 221 = .ok (.iload_n 2, 1) := dk_28 (dk_at dksX8_clause_10 3 rfl rfl)
theorem dX8_clause_222 : decode cX8_clause 222 = .ok (.aaload, 1) := dk_50 (dk_at dksX8_clause_10 4 rfl rfl)
theorem dX8_clause_223 : decode cX8_clause 223 = .ok (.iconst 0, 1) := dk_3 (dk_at dksX8_clause_10 5 rfl rfl)
theorem dX8_clause_224 : decode cX8_clause 224 = .ok (.aload_n 0, 1) := dk_42 (dk_at dksX8_clause_10 6 rfl rfl)
theorem dX8_clause_225 : decode cX8_clause 225 = .ok (.iconst 0, 1) := dk_3 (dk_at dksX8_clause_10 7 rfl rfl)
theorem dX8_clause_226 : decode cX8_clause 226 = .ok (.bipush 9, 2) := dk_16 9 (dk_at dksX8_clause_10 8 rfl rfl)
theorem dX8_clause_228 : decode cX8_clause 228 = .ok (.invokevirtual 168, 3) := dk_182 0 168 (dk_at dksX8_clause_10 10 rfl rfl)
theorem dX8_clause_231 : decode cX8_clause 231 = .ok (.iastore, 1) := dk_79 (dk_at dksX8_clause_10 13 rfl rfl)
theorem dX8_clause_232 : decode cX8_clause 232 = .ok (.aload_n 0, 1) := dk_42 (dk_at dksX8_clause_10 14 rfl rfl)
theorem dX8_clause_233 : decode cX8_clause 233 = .ok (.getfield 46, 3) := dk_180 0 46 (dk_at dksX8_clause_10 15 rfl rfl)
theorem dX8_clause_236 : decode cX8_clause 236 = .ok (.iload_n 2, 1) := dk_28 (dk_at dksX8_clause_10 18 rfl rfl)
theorem dX8_clause_237 : decode cX8_clause 237 = .ok (.aaload, 1) := dk_50 (dk_at dksX8_clause_10 19 rfl rfl)
theorem dX8_clause_238 : decode cX8_clause 238 = .ok (.iconst 1, 1) := dk_4 (dk_at dksX8_clause_10 20 rfl rfl)
theorem dX8_clause_239 : decode cX8_clause 239 = .ok (.aload_n 0, 1) := dk_42 (dk_at dksX8_clause_10 21 rfl rfl)
theorem dX8_clause_240 : decode cX8_clause 240 = .ok (.iconst 1, 1) := dk_4 (dk_at dksX8_clause_10 22 rfl rfl)
theorem dX8_clause_241 : decode cX8_clause 241 = .ok (.bipush 9, 2) := dk_16 9 (dk_at dksX8_clause_11 0 rfl rfl)
theorem dX8_clause_243 : decode cX8_clause 243 = .ok (.invokevirtual 168, 3) := dk_182 0 168 (dk_at dksX8_clause_11 2 rfl rfl)
theorem dX8_clause_246 : decode cX8_clause 246 = .ok (.iastore, 1) := dk_79 (dk_at dksX8_clause_11 5 rfl rfl)
theorem dX8_clause_247 : decode cX8_clause 247 = .ok (.goto 60, 3) := dk_167 0 60 (dk_at dksX8_clause_11 6 rfl rfl)
theorem dX8_clause_250 : decode cX8_clause 250 = .ok (.aload_n 0, 1) := dk_42 (dk_at dksX8_clause_11 9 rfl rfl)
theorem dX8_clause_251 : decode cX8_clause 251 = .ok (.iconst 0, 1) := dk_3 (dk_at dksX8_clause_11 10 rfl rfl)
theorem dX8_clause_252 : decode cX8_clause 252 = .ok (.bipush 40, 2) := dk_16 40 (dk_at dksX8_clause_11 11 rfl rfl)
theorem dX8_clause_254 : decode cX8_clause 254 = .ok (.invokevirtual 168, 3) := dk_182 0 168 (dk_at dksX8_clause_11 13 rfl rfl)
theorem dX8_clause_257 : decode cX8_clause 257 = .ok (.istore_n 3, 1) := dk_62 (dk_at dksX8_clause_11 16 rfl rfl)
theorem dX8_clause_258 : decode cX8_clause 258 = .ok (.aload_n 0, 1) := dk_42 (dk_at dksX8_clause_11 17 rfl rfl)
theorem dX8_clause_259 : decode cX8_clause 259 = .ok (.getfield 122, 3) := dk_180 0 122 (dk_at dksX8_clause_11 18 rfl rfl)
theorem dX8_clause_262 : decode cX8_clause 262 = .ok (.ifCond .ne 45, 3) := dk_154 0 45 (dk_at dksX8_clause_11 21 rfl rfl)
theorem dX8_clause_265 : decode cX8_clause 265 = .ok (.aload_n 0, 1) := dk_42 (dk_at dksX8_clause_12 0 rfl rfl)
theorem dX8_clause_266 : decode cX8_clause 266 = .ok (.getfield 20, 3) := dk_180 0 20 (dk_at dksX8_clause_12 1 rfl rfl)
theorem dX8_clause_269 : decode cX8_clause 269 = .ok (.iconst 3, 1) := dk_6 (dk_at dksX8_clause_12 4 rfl rfl)
theorem dX8_clause_270 : decode cX8_clause 270 = .ok (.iload_n 3, 1) := dk_29 (dk_at dksX8_clause_12 5 rfl rfl)
theorem dX8_clause_271 : decode cX8_clause 271 = .ok (.iastore, 1) := dk_79 (dk_at dksX8_clause_12 6 rfl rfl)
theorem dX8_clause_272 : decode cX8_clause 272 = .ok (.goto 35, 3) := dk_167 0 35 (dk_at dksX8_clause_12 7 rfl rfl)
theorem dX8_clause_275 : decode cX8_clause 275 = .ok (.aload_n 0, 1) := dk_42 (dk_at dksX8_clause_12 10 rfl rfl)
theorem dX8_clause_276 : decode cX8_clause 276 = .ok (.invokevirtual 178, 3) := dk_182 0 178 (dk_at dksX8_clause_12 11 rfl rfl)
theorem dX8_clause_279 : decode cX8_clause 279 = .ok (.istore_n 3, 1) := dk_62 (dk_at dksX8_clause_12 14 rfl rfl)
theorem dX8_clause_280 : decode cX8_clause 280 = .ok (.aload_n 0, 1) := dk_42 (dk_at dksX8_clause_12 15 rfl rfl)
theorem dX8_clause_281 : decode cX8_clause 281 = .ok (.iconst 0, 1) := dk_3 (dk_at dksX8_clause_12 16 rfl rfl)
theorem dX8_clause_282 : decode cX8_clause 282 = .ok (.bipush 9, 2) := dk_16 9 (dk_at dksX8_clause_12 17 rfl rfl)
theorem dX8_clause_284 : decode cX8_clause 284 = .ok (.invokevirtual 168, 3) := dk_182 0 168 (dk_at dksX8_clause_12 19 rfl rfl)
theorem dX8_clause_287 : decode cX8_clause 287 = .ok (.istore 4, 2) := dk_54 4 (dk_at dksX8_clause_12 22 rfl rfl)
theorem dX8_clause_289 : decode cX8_clause 289 = .ok (.aload_n 0, 1) := dk_42 (dk_at dksX8_clause_13 0 rfl rfl)
theorem dX8_clause_290 : decode cX8_clause 290 = .ok (.getfield 122, 3) := dk_180 0 122 (dk_at dksX8_clause_13 1 rfl rfl)
theorem dX8_clause_293 : decode cX8_clause 293 = .ok (.ifCond .ne 14, 3) := dk_154 0 14 (dk_at dksX8_clause_13 4 rfl rfl)
theorem dX8_clause_296 : decode cX8_clause 296 = .ok (.aload_n 0, 1) := dk_42 (dk_at dksX8_clause_13 7 rfl rfl)
theorem dX8_clause_297 : decode cX8_clause 297 = .ok (.getfield 32, 3) := dk_180 0 32 (dk_at dksX8_clause_13 8 rfl rfl)
theorem dX8_clause_300 : decode cX8_clause 300 = .ok (.iload_n 3, 1) := dk_29 (dk_at dksX8_clause_13 11 rfl rfl)
theorem dX8_clause_301 : decode cX8_clause 301 = .ok (.iload 4, 2) := dk_21 4 (dk_at dksX8_clause_13 12 rfl rfl)
theorem dX8_clause_303 : decode cX8_clause 303 = .ok (.iastore, 1) := dk_79 (dk_at dksX8_clause_13 14 rfl rfl)
theorem dX8_clause_304 : decode cX8_clause 304 = .ok (.goto 3, 3) := dk_167 0 3 (dk_at dksX8_clause_13 15 rfl rfl)
theorem dX8_clause_307 : decode cX8_clause 307 = .ok (.aload_n 0, 1) := dk_42 (dk_at dksX8_clause_13 18 rfl rfl)
theorem dX8_clause_308 : decode cX8_clause 308 = .ok (.bipush 59, 2) := dk_16 59 (dk_at dksX8_clause_13 19 rfl rfl)
theorem dX8_clause_310 : decode cX8_clause 310 = .ok (.invokevirtual 185, 3) := dk_182 0 185 (dk_at dksX8_clause_13 21 rfl rfl)
theorem dX8_clause_313 : decode cX8_clause 313 = .ok (.iload_n 1, 1) := dk_27 (dk_at dksX8_clause_14 0 rfl rfl)
theorem dX8_clause_314 : decode cX8_clause 314 = .ok (.iconst 3, 1) := dk_6 (dk_at dksX8_clause_14 1 rfl rfl)
theorem dX8_clause_315 : decode cX8_clause 315 = .ok (.if_icmp .ge 24, 3) := dk_162 0 24 (dk_at dksX8_clause_14 2 rfl rfl)
theorem dX8_clause_318 : decode cX8_clause 318 = .ok (.aload_n 0, 1) := dk_42 (dk_at dksX8_clause_14 5 rfl rfl)
theorem dX8_clause_319 : decode cX8_clause 319 = .ok (.getfield 20, 3) := dk_180 0 20 (dk_at dksX8_clause_14 6 rfl rfl)
theorem dX8_clause_322 : decode cX8_clause 322 = .ok (.iload_n 1, 1) := dk_27 (dk_at dksX8_clause_14 9 rfl rfl)
theorem dX8_clause_323 : decode cX8_clause 323 = .ok (.dup2, 1) := dk_92 (dk_at dksX8_clause_14 10 rfl rfl)
theorem dX8_clause_324 : decode cX8_clause 324 = .ok (.iaload, 1) := dk_46 (dk_at dksX8_clause_14 11 rfl rfl)
theorem dX8_clause_325 : decode cX8_clause 325 = .ok (.aload_n 0, 1) := dk_42 (dk_at dksX8_clause_14 12 rfl rfl)
theorem dX8_clause_326 : decode cX8_clause 326 = .ok (.getfield 122, 3) := dk_180 0 122 (dk_at dksX8_clause_14 13 rfl rfl)
theorem dX8_clause_329 : decode cX8_clause 329 = .ok (.ifCond .ne 7, 3) := dk_154 0 7 (dk_at dksX8_clause_14 16 rfl rfl)
theorem dX8_clause_332 : decode cX8_clause 332 = .ok (.iconst 1, 1) := dk_4 (dk_at dksX8_clause_14 19 rfl rfl)
theorem dX8_clause_333 : decode cX8_clause 333 = .ok (.goto 4, 3) := dk_167 0 4 (dk_at dksX8_clause_14 20 rfl rfl)
theorem dX8_clause_336 : decode cX8_clause 336 = .ok (.iconst 0, 1) := dk_3 (dk_at dksX8_clause_14 23 rfl rfl)
theorem dX8_clause_337 : decode cX8_clause 337 = .ok (.iadd, 1) := dk_96 (dk_at dksX8_clause_15 0 rfl rfl)
theorem dX8_clause_338 : decode cX8_clause 338 = .ok (.iastore, 1) := dk_79 (dk_at dksX8_clause_15 1 rfl rfl)
theorem dX8_clause_339 : decode cX8_clause 339 = .ok (.return_, 1) := dk_177 (dk_at dksX8_clause_15 2 rfl rfl)
abbrev cX8_kindHere : ByteArray := prog_30_method_25_code
def yX8_kindHere : MethodName := ⟨RX8, "kindHere", "()I"⟩
def dkwX8_kindHere_4 : List UInt8 := [167, 0, 4, 2, 172]
abbrev dktX8_kindHere_4 : List UInt8 := dkwX8_kindHere_4 ++ []
def dkwX8_kindHere_3 : List UInt8 := [153, 0, 5, 6, 172, 42, 16, 23, 16, 9, 16, 19, 16, 8, 3, 3, 182, 0, 155, 153, 0, 7, 7]
abbrev dktX8_kindHere_3 : List UInt8 := dkwX8_kindHere_3 ++ dktX8_kindHere_4
def dkwX8_kindHere_2 : List UInt8 := [3, 182, 0, 155, 153, 0, 5, 5, 172, 42, 16, 6, 8, 16, 12, 16, 20, 3, 3, 182, 0, 155]
abbrev dktX8_kindHere_2 : List UInt8 := dkwX8_kindHere_2 ++ dktX8_kindHere_3
def dkwX8_kindHere_1 : List UInt8 := [16, 12, 16, 12, 3, 3, 182, 0, 155, 153, 0, 5, 4, 172, 42, 16, 16, 16, 9, 4, 16, 14, 16, 15]
abbrev dktX8_kindHere_1 : List UInt8 := dkwX8_kindHere_1 ++ dktX8_kindHere_2
def dkwX8_kindHere_0 : List UInt8 := [42, 16, 8, 16, 15, 16, 21, 16, 19, 8, 3, 182, 0, 155, 153, 0, 5, 3, 172, 42, 16, 23, 4]
abbrev dktX8_kindHere_0 : List UInt8 := dkwX8_kindHere_0 ++ dktX8_kindHere_1
theorem dksX8_kindHere_0 : cX8_kindHere.data.toList.drop 0 = dktX8_kindHere_0 := by decide +kernel
theorem dksX8_kindHere_1 : cX8_kindHere.data.toList.drop 23 = dktX8_kindHere_1 := dk_seg dksX8_kindHere_0 23 rfl rfl
theorem dksX8_kindHere_2 : cX8_kindHere.data.toList.drop 47 = dktX8_kindHere_2 := dk_seg dksX8_kindHere_1 24 rfl rfl
theorem dksX8_kindHere_3 : cX8_kindHere.data.toList.drop 69 = dktX8_kindHere_3 := dk_seg dksX8_kindHere_2 22 rfl rfl
theorem dksX8_kindHere_4 : cX8_kindHere.data.toList.drop 92 = dktX8_kindHere_4 := dk_seg dksX8_kindHere_3 23 rfl rfl
theorem dX8_kindHere_0 : decode cX8_kindHere 0 = .ok (.aload_n 0, 1) := dk_42 (dk_at dksX8_kindHere_0 0 rfl rfl)
theorem dX8_kindHere_1 : decode cX8_kindHere 1 = .ok (.bipush 8, 2) := dk_16 8 (dk_at dksX8_kindHere_0 1 rfl rfl)
theorem dX8_kindHere_3 : decode cX8_kindHere 3 = .ok (.bipush 15, 2) := dk_16 15 (dk_at dksX8_kindHere_0 3 rfl rfl)
theorem dX8_kindHere_5 : decode cX8_kindHere 5 = .ok (.bipush 21, 2) := dk_16 21 (dk_at dksX8_kindHere_0 5 rfl rfl)
theorem dX8_kindHere_7 : decode cX8_kindHere 7 = .ok (.bipush 19, 2) := dk_16 19 (dk_at dksX8_kindHere_0 7 rfl rfl)
theorem dX8_kindHere_9 : decode cX8_kindHere 9 = .ok (.iconst 5, 1) := dk_8 (dk_at dksX8_kindHere_0 9 rfl rfl)
theorem dX8_kindHere_10 : decode cX8_kindHere 10 = .ok (.iconst 0, 1) := dk_3 (dk_at dksX8_kindHere_0 10 rfl rfl)
theorem dX8_kindHere_11 : decode cX8_kindHere 11 = .ok (.invokevirtual 155, 3) := dk_182 0 155 (dk_at dksX8_kindHere_0 11 rfl rfl)
theorem dX8_kindHere_14 : decode cX8_kindHere 14 = .ok (.ifCond .eq 5, 3) := dk_153 0 5 (dk_at dksX8_kindHere_0 14 rfl rfl)
theorem dX8_kindHere_17 : decode cX8_kindHere 17 = .ok (.iconst 0, 1) := dk_3 (dk_at dksX8_kindHere_0 17 rfl rfl)
theorem dX8_kindHere_18 : decode cX8_kindHere 18 = .ok (.ireturn, 1) := dk_172 (dk_at dksX8_kindHere_0 18 rfl rfl)
theorem dX8_kindHere_19 : decode cX8_kindHere 19 = .ok (.aload_n 0, 1) := dk_42 (dk_at dksX8_kindHere_0 19 rfl rfl)
theorem dX8_kindHere_20 : decode cX8_kindHere 20 = .ok (.bipush 23, 2) := dk_16 23 (dk_at dksX8_kindHere_0 20 rfl rfl)
theorem dX8_kindHere_22 : decode cX8_kindHere 22 = .ok (.iconst 1, 1) := dk_4 (dk_at dksX8_kindHere_0 22 rfl rfl)
theorem dX8_kindHere_23 : decode cX8_kindHere 23 = .ok (.bipush 12, 2) := dk_16 12 (dk_at dksX8_kindHere_1 0 rfl rfl)
theorem dX8_kindHere_25 : decode cX8_kindHere 25 = .ok (.bipush 12, 2) := dk_16 12 (dk_at dksX8_kindHere_1 2 rfl rfl)
theorem dX8_kindHere_27 : decode cX8_kindHere 27 = .ok (.iconst 0, 1) := dk_3 (dk_at dksX8_kindHere_1 4 rfl rfl)
theorem dX8_kindHere_28 : decode cX8_kindHere 28 = .ok (.iconst 0, 1) := dk_3 (dk_at dksX8_kindHere_1 5 rfl rfl)
theorem dX8_kindHere_29 : decode cX8_kindHere 29 = .ok (.invokevirtual 155, 3) := dk_182 0 155 (dk_at dksX8_kindHere_1 6 rfl rfl)
theorem dX8_kindHere_32 : decode cX8_kindHere 32 = .ok (.ifCond .eq 5, 3) := dk_153 0 5 (dk_at dksX8_kindHere_1 9 rfl rfl)
theorem dX8_kindHere_35 : decode cX8_kindHere 35 = .ok (.iconst 1, 1) := dk_4 (dk_at dksX8_kindHere_1 12 rfl rfl)
theorem dX8_kindHere_36 : decode cX8_kindHere 36 = .ok (.ireturn, 1) := dk_172 (dk_at dksX8_kindHere_1 13 rfl rfl)
theorem dX8_kindHere_37 : decode cX8_kindHere 37 = .ok (.aload_n 0, 1) := dk_42 (dk_at dksX8_kindHere_1 14 rfl rfl)
theorem dX8_kindHere_38 : decode cX8_kindHere 38 = .ok (.bipush 16, 2) := dk_16 16 (dk_at dksX8_kindHere_1 15 rfl rfl)
theorem dX8_kindHere_40 : decode cX8_kindHere 40 = .ok (.bipush 9, 2) := dk_16 9 (dk_at dksX8_kindHere_1 17 rfl rfl)
theorem dX8_kindHere_42 : decode cX8_kindHere 42 = .ok (.iconst 1, 1) := dk_4 (dk_at dksX8_kindHere_1 19 rfl rfl)
theorem dX8_kindHere_43 : decode cX8_kindHere 43 = .ok (.bipush 14, 2) := dk_16 14 (dk_at dksX8_kindHere_1 20 rfl rfl)
theorem dX8_kindHere_45 : decode cX8_kindHere 45 = .ok (.bipush 15, 2) := dk_16 15 (dk_at dksX8_kindHere_1 22 rfl rfl)
theorem dX8_kindHere_47 : decode cX8_kindHere 47 = .ok (.iconst 0, 1) := dk_3 (dk_at dksX8_kindHere_2 0 rfl rfl)
theorem dX8_kindHere_48 : decode cX8_kindHere 48 = .ok (.invokevirtual 155, 3) := dk_182 0 155 (dk_at dksX8_kindHere_2 1 rfl rfl)
theorem dX8_kindHere_51 : decode cX8_kindHere 51 = .ok (.ifCond .eq 5, 3) := dk_153 0 5 (dk_at dksX8_kindHere_2 4 rfl rfl)
theorem dX8_kindHere_54 : decode cX8_kindHere 54 = .ok (.iconst 2, 1) := dk_5 (dk_at dksX8_kindHere_2 7 rfl rfl)
theorem dX8_kindHere_55 : decode cX8_kindHere 55 = .ok (.ireturn, 1) := dk_172 (dk_at dksX8_kindHere_2 8 rfl rfl)
theorem dX8_kindHere_56 : decode cX8_kindHere 56 = .ok (.aload_n 0, 1) := dk_42 (dk_at dksX8_kindHere_2 9 rfl rfl)
theorem dX8_kindHere_57 : decode cX8_kindHere 57 = .ok (.bipush 6, 2) := dk_16 6 (dk_at dksX8_kindHere_2 10 rfl rfl)
theorem dX8_kindHere_59 : decode cX8_kindHere 59 = .ok (.iconst 5, 1) := dk_8 (dk_at dksX8_kindHere_2 12 rfl rfl)
theorem dX8_kindHere_60 : decode cX8_kindHere 60 = .ok (.bipush 12, 2) := dk_16 12 (dk_at dksX8_kindHere_2 13 rfl rfl)
theorem dX8_kindHere_62 : decode cX8_kindHere 62 = .ok (.bipush 20, 2) := dk_16 20 (dk_at dksX8_kindHere_2 15 rfl rfl)
theorem dX8_kindHere_64 : decode cX8_kindHere 64 = .ok (.iconst 0, 1) := dk_3 (dk_at dksX8_kindHere_2 17 rfl rfl)
theorem dX8_kindHere_65 : decode cX8_kindHere 65 = .ok (.iconst 0, 1) := dk_3 (dk_at dksX8_kindHere_2 18 rfl rfl)
theorem dX8_kindHere_66 : decode cX8_kindHere 66 = .ok (.invokevirtual 155, 3) := dk_182 0 155 (dk_at dksX8_kindHere_2 19 rfl rfl)
theorem dX8_kindHere_69 : decode cX8_kindHere 69 = .ok (.ifCond .eq 5, 3) := dk_153 0 5 (dk_at dksX8_kindHere_3 0 rfl rfl)
theorem dX8_kindHere_72 : decode cX8_kindHere 72 = .ok (.iconst 3, 1) := dk_6 (dk_at dksX8_kindHere_3 3 rfl rfl)
theorem dX8_kindHere_73 : decode cX8_kindHere 73 = .ok (.ireturn, 1) := dk_172 (dk_at dksX8_kindHere_3 4 rfl rfl)
theorem dX8_kindHere_74 : decode cX8_kindHere 74 = .ok (.aload_n 0, 1) := dk_42 (dk_at dksX8_kindHere_3 5 rfl rfl)
theorem dX8_kindHere_75 : decode cX8_kindHere 75 = .ok (.bipush 23, 2) := dk_16 23 (dk_at dksX8_kindHere_3 6 rfl rfl)
theorem dX8_kindHere_77 : decode cX8_kindHere 77 = .ok (.bipush 9, 2) := dk_16 9 (dk_at dksX8_kindHere_3 8 rfl rfl)
theorem dX8_kindHere_79 : decode cX8_kindHere 79 = .ok (.bipush 19, 2) := dk_16 19 (dk_at dksX8_kindHere_3 10 rfl rfl)
theorem dX8_kindHere_81 : decode cX8_kindHere 81 = .ok (.bipush 8, 2) := dk_16 8 (dk_at dksX8_kindHere_3 12 rfl rfl)
theorem dX8_kindHere_83 : decode cX8_kindHere 83 = .ok (.iconst 0, 1) := dk_3 (dk_at dksX8_kindHere_3 14 rfl rfl)
theorem dX8_kindHere_84 : decode cX8_kindHere 84 = .ok (.iconst 0, 1) := dk_3 (dk_at dksX8_kindHere_3 15 rfl rfl)
theorem dX8_kindHere_85 : decode cX8_kindHere 85 = .ok (.invokevirtual 155, 3) := dk_182 0 155 (dk_at dksX8_kindHere_3 16 rfl rfl)
theorem dX8_kindHere_88 : decode cX8_kindHere 88 = .ok (.ifCond .eq 7, 3) := dk_153 0 7 (dk_at dksX8_kindHere_3 19 rfl rfl)
theorem dX8_kindHere_91 : decode cX8_kindHere 91 = .ok (.iconst 4, 1) := dk_7 (dk_at dksX8_kindHere_3 22 rfl rfl)
theorem dX8_kindHere_92 : decode cX8_kindHere 92 = .ok (.goto 4, 3) := dk_167 0 4 (dk_at dksX8_kindHere_4 0 rfl rfl)
theorem dX8_kindHere_95 : decode cX8_kindHere 95 = .ok (.iconst (-1), 1) := dk_2 (dk_at dksX8_kindHere_4 3 rfl rfl)
theorem dX8_kindHere_96 : decode cX8_kindHere 96 = .ok (.ireturn, 1) := dk_172 (dk_at dksX8_kindHere_4 4 rfl rfl)
abbrev cX8_isWord : ByteArray := prog_30_method_18_code
def yX8_isWord : MethodName := ⟨RX8, "isWord", "(IIIIII)Z"⟩
def dkwX8_isWord_1 : List UInt8 := [160, 0, 7, 4, 167, 0, 4, 3, 172]
abbrev dktX8_isWord_1 : List UInt8 := dkwX8_isWord_1 ++ []
def dkwX8_isWord_0 : List UInt8 := [42, 180, 0, 122, 154, 0, 26, 42, 182, 0, 147, 27, 28, 29, 21, 4, 21, 5, 21, 6, 184, 0, 151]
abbrev dktX8_isWord_0 : List UInt8 := dkwX8_isWord_0 ++ dktX8_isWord_1
theorem dksX8_isWord_0 : cX8_isWord.data.toList.drop 0 = dktX8_isWord_0 := by decide +kernel
theorem dksX8_isWord_1 : cX8_isWord.data.toList.drop 23 = dktX8_isWord_1 := dk_seg dksX8_isWord_0 23 rfl rfl
theorem dX8_isWord_0 : decode cX8_isWord 0 = .ok (.aload_n 0, 1) := dk_42 (dk_at dksX8_isWord_0 0 rfl rfl)
theorem dX8_isWord_1 : decode cX8_isWord 1 = .ok (.getfield 122, 3) := dk_180 0 122 (dk_at dksX8_isWord_0 1 rfl rfl)
theorem dX8_isWord_4 : decode cX8_isWord 4 = .ok (.ifCond .ne 26, 3) := dk_154 0 26 (dk_at dksX8_isWord_0 4 rfl rfl)
theorem dX8_isWord_7 : decode cX8_isWord 7 = .ok (.aload_n 0, 1) := dk_42 (dk_at dksX8_isWord_0 7 rfl rfl)
theorem dX8_isWord_8 : decode cX8_isWord 8 = .ok (.invokevirtual 147, 3) := dk_182 0 147 (dk_at dksX8_isWord_0 8 rfl rfl)
theorem dX8_isWord_11 : decode cX8_isWord 11 = .ok (.iload_n 1, 1) := dk_27 (dk_at dksX8_isWord_0 11 rfl rfl)
theorem dX8_isWord_12 : decode cX8_isWord 12 = .ok (.iload_n 2, 1) := dk_28 (dk_at dksX8_isWord_0 12 rfl rfl)
theorem dX8_isWord_13 : decode cX8_isWord 13 = .ok (.iload_n 3, 1) := dk_29 (dk_at dksX8_isWord_0 13 rfl rfl)
theorem dX8_isWord_14 : decode cX8_isWord 14 = .ok (.iload 4, 2) := dk_21 4 (dk_at dksX8_isWord_0 14 rfl rfl)
theorem dX8_isWord_16 : decode cX8_isWord 16 = .ok (.iload 5, 2) := dk_21 5 (dk_at dksX8_isWord_0 16 rfl rfl)
theorem dX8_isWord_18 : decode cX8_isWord 18 = .ok (.iload 6, 2) := dk_21 6 (dk_at dksX8_isWord_0 18 rfl rfl)
theorem dX8_isWord_20 : decode cX8_isWord 20 = .ok (.invokestatic 151, 3) := dk_184 0 151 (dk_at dksX8_isWord_0 20 rfl rfl)
theorem dX8_isWord_23 : decode cX8_isWord 23 = .ok (.if_icmp .ne 7, 3) := dk_160 0 7 (dk_at dksX8_isWord_1 0 rfl rfl)
theorem dX8_isWord_26 : decode cX8_isWord 26 = .ok (.iconst 1, 1) := dk_4 (dk_at dksX8_isWord_1 3 rfl rfl)
theorem dX8_isWord_27 : decode cX8_isWord 27 = .ok (.goto 4, 3) := dk_167 0 4 (dk_at dksX8_isWord_1 4 rfl rfl)
theorem dX8_isWord_30 : decode cX8_isWord 30 = .ok (.iconst 0, 1) := dk_3 (dk_at dksX8_isWord_1 7 rfl rfl)
theorem dX8_isWord_31 : decode cX8_isWord 31 = .ok (.ireturn, 1) := dk_172 (dk_at dksX8_isWord_1 8 rfl rfl)
abbrev cX8_wordHere : ByteArray := prog_30_method_16_code
def yX8_wordHere : MethodName := ⟨RX8, "wordHere", "()I"⟩
def dkwX8_wordHere_3 : List UInt8 := [172]
abbrev dktX8_wordHere_3 : List UInt8 := dkwX8_wordHere_3 ++ []
def dkwX8_wordHere_2 : List UInt8 := [4, 96, 167, 0, 4, 27, 60, 132, 2, 1, 167, 255, 206, 28, 16, 6, 164, 0, 7, 2, 167, 0, 4, 27]
abbrev dktX8_wordHere_2 : List UInt8 := dkwX8_wordHere_2 ++ dktX8_wordHere_3
def dkwX8_wordHere_1 : List UInt8 := [28, 16, 6, 162, 0, 26, 16, 27, 27, 104, 42, 42, 180, 0, 115, 28, 96, 182, 0, 118, 96, 16, 97, 100]
abbrev dktX8_wordHere_1 : List UInt8 := dkwX8_wordHere_1 ++ dktX8_wordHere_2
def dkwX8_wordHere_0 : List UInt8 := [42, 182, 0, 128, 3, 60, 3, 61, 42, 42, 180, 0, 115, 28, 96, 182, 0, 118, 184, 0, 144, 153, 0, 40]
abbrev dktX8_wordHere_0 : List UInt8 := dkwX8_wordHere_0 ++ dktX8_wordHere_1
theorem dksX8_wordHere_0 : cX8_wordHere.data.toList.drop 0 = dktX8_wordHere_0 := by decide +kernel
theorem dksX8_wordHere_1 : cX8_wordHere.data.toList.drop 24 = dktX8_wordHere_1 := dk_seg dksX8_wordHere_0 24 rfl rfl
theorem dksX8_wordHere_2 : cX8_wordHere.data.toList.drop 48 = dktX8_wordHere_2 := dk_seg dksX8_wordHere_1 24 rfl rfl
theorem dksX8_wordHere_3 : cX8_wordHere.data.toList.drop 72 = dktX8_wordHere_3 := dk_seg dksX8_wordHere_2 24 rfl rfl
theorem dX8_wordHere_0 : decode cX8_wordHere 0 = .ok (.aload_n 0, 1) := dk_42 (dk_at dksX8_wordHere_0 0 rfl rfl)
theorem dX8_wordHere_1 : decode cX8_wordHere 1 = .ok (.invokevirtual 128, 3) := dk_182 0 128 (dk_at dksX8_wordHere_0 1 rfl rfl)
theorem dX8_wordHere_4 : decode cX8_wordHere 4 = .ok (.iconst 0, 1) := dk_3 (dk_at dksX8_wordHere_0 4 rfl rfl)
theorem dX8_wordHere_5 : decode cX8_wordHere 5 = .ok (.istore_n 1, 1) := dk_60 (dk_at dksX8_wordHere_0 5 rfl rfl)
theorem dX8_wordHere_6 : decode cX8_wordHere 6 = .ok (.iconst 0, 1) := dk_3 (dk_at dksX8_wordHere_0 6 rfl rfl)
theorem dX8_wordHere_7 : decode cX8_wordHere 7 = .ok (.istore_n 2, 1) := dk_61 (dk_at dksX8_wordHere_0 7 rfl rfl)
theorem dX8_wordHere_8 : decode cX8_wordHere 8 = .ok (.aload_n 0, 1) := dk_42 (dk_at dksX8_wordHere_0 8 rfl rfl)
theorem dX8_wordHere_9 : decode cX8_wordHere 9 = .ok (.aload_n 0, 1) := dk_42 (dk_at dksX8_wordHere_0 9 rfl rfl)
theorem dX8_wordHere_10 : decode cX8_wordHere 10 = .ok (.getfield 115, 3) := dk_180 0 115 (dk_at dksX8_wordHere_0 10 rfl rfl)
theorem dX8_wordHere_13 : decode cX8_wordHere 13 = .ok (.iload_n 2, 1) := dk_28 (dk_at dksX8_wordHere_0 13 rfl rfl)
theorem dX8_wordHere_14 : decode cX8_wordHere 14 = .ok (.iadd, 1) := dk_96 (dk_at dksX8_wordHere_0 14 rfl rfl)
theorem dX8_wordHere_15 : decode cX8_wordHere 15 = .ok (.invokevirtual 118, 3) := dk_182 0 118 (dk_at dksX8_wordHere_0 15 rfl rfl)
theorem dX8_wordHere_18 : decode cX8_wordHere 18 = .ok (.invokestatic 144, 3) := dk_184 0 144 (dk_at dksX8_wordHere_0 18 rfl rfl)
theorem dX8_wordHere_21 : decode cX8_wordHere 21 = .ok (.ifCond .eq 40, 3) := dk_153 0 40 (dk_at dksX8_wordHere_0 21 rfl rfl)
theorem dX8_wordHere_24 : decode cX8_wordHere 24 = .ok (.iload_n 2, 1) := dk_28 (dk_at dksX8_wordHere_1 0 rfl rfl)
theorem dX8_wordHere_25 : decode cX8_wordHere 25 = .ok (.bipush 6, 2) := dk_16 6 (dk_at dksX8_wordHere_1 1 rfl rfl)
theorem dX8_wordHere_27 : decode cX8_wordHere 27 = .ok (.if_icmp .ge 26, 3) := dk_162 0 26 (dk_at dksX8_wordHere_1 3 rfl rfl)
theorem dX8_wordHere_30 : decode cX8_wordHere 30 = .ok (.bipush 27, 2) := dk_16 27 (dk_at dksX8_wordHere_1 6 rfl rfl)
theorem dX8_wordHere_32 : decode cX8_wordHere 32 = .ok (.iload_n 1, 1) := dk_27 (dk_at dksX8_wordHere_1 8 rfl rfl)
theorem dX8_wordHere_33 : decode cX8_wordHere 33 = .ok (.imul, 1) := dk_104 (dk_at dksX8_wordHere_1 9 rfl rfl)
theorem dX8_wordHere_34 : decode cX8_wordHere 34 = .ok (.aload_n 0, 1) := dk_42 (dk_at dksX8_wordHere_1 10 rfl rfl)
theorem dX8_wordHere_35 : decode cX8_wordHere 35 = .ok (.aload_n 0, 1) := dk_42 (dk_at dksX8_wordHere_1 11 rfl rfl)
theorem dX8_wordHere_36 : decode cX8_wordHere 36 = .ok (.getfield 115, 3) := dk_180 0 115 (dk_at dksX8_wordHere_1 12 rfl rfl)
theorem dX8_wordHere_39 : decode cX8_wordHere 39 = .ok (.iload_n 2, 1) := dk_28 (dk_at dksX8_wordHere_1 15 rfl rfl)
theorem dX8_wordHere_40 : decode cX8_wordHere 40 = .ok (.iadd, 1) := dk_96 (dk_at dksX8_wordHere_1 16 rfl rfl)
theorem dX8_wordHere_41 : decode cX8_wordHere 41 = .ok (.invokevirtual 118, 3) := dk_182 0 118 (dk_at dksX8_wordHere_1 17 rfl rfl)
theorem dX8_wordHere_44 : decode cX8_wordHere 44 = .ok (.iadd, 1) := dk_96 (dk_at dksX8_wordHere_1 20 rfl rfl)
theorem dX8_wordHere_45 : decode cX8_wordHere 45 = .ok (.bipush 97, 2) := dk_16 97 (dk_at dksX8_wordHere_1 21 rfl rfl)
theorem dX8_wordHere_47 : decode cX8_wordHere 47 = .ok (.isub, 1) := dk_100 (dk_at dksX8_wordHere_1 23 rfl rfl)
theorem dX8_wordHere_48 : decode cX8_wordHere 48 = .ok (.iconst 1, 1) := dk_4 (dk_at dksX8_wordHere_2 0 rfl rfl)
theorem dX8_wordHere_49 : decode cX8_wordHere 49 = .ok (.iadd, 1) := dk_96 (dk_at dksX8_wordHere_2 1 rfl rfl)
theorem dX8_wordHere_50 : decode cX8_wordHere 50 = .ok (.goto 4, 3) := dk_167 0 4 (dk_at dksX8_wordHere_2 2 rfl rfl)
theorem dX8_wordHere_53 : decode cX8_wordHere 53 = .ok (.iload_n 1, 1) := dk_27 (dk_at dksX8_wordHere_2 5 rfl rfl)
theorem dX8_wordHere_54 : decode cX8_wordHere 54 = .ok (.istore_n 1, 1) := dk_60 (dk_at dksX8_wordHere_2 6 rfl rfl)
theorem dX8_wordHere_55 : decode cX8_wordHere 55 = .ok (.iinc 2 1, 3) := dk_132 2 1 (dk_at dksX8_wordHere_2 7 rfl rfl)
theorem dX8_wordHere_58 : decode cX8_wordHere 58 = .ok (.goto (-50), 3) := dk_167 255 206 (dk_at dksX8_wordHere_2 10 rfl rfl)
theorem dX8_wordHere_61 : decode cX8_wordHere 61 = .ok (.iload_n 2, 1) := dk_28 (dk_at dksX8_wordHere_2 13 rfl rfl)
theorem dX8_wordHere_62 : decode cX8_wordHere 62 = .ok (.bipush 6, 2) := dk_16 6 (dk_at dksX8_wordHere_2 14 rfl rfl)
theorem dX8_wordHere_64 : decode cX8_wordHere 64 = .ok (.if_icmp .le 7, 3) := dk_164 0 7 (dk_at dksX8_wordHere_2 16 rfl rfl)
theorem dX8_wordHere_67 : decode cX8_wordHere 67 = .ok (.iconst (-1), 1) := dk_2 (dk_at dksX8_wordHere_2 19 rfl rfl)
theorem dX8_wordHere_68 : decode cX8_wordHere 68 = .ok (.goto 4, 3) := dk_167 0 4 (dk_at dksX8_wordHere_2 20 rfl rfl)
theorem dX8_wordHere_71 : decode cX8_wordHere 71 = .ok (.iload_n 1, 1) := dk_27 (dk_at dksX8_wordHere_2 23 rfl rfl)
theorem dX8_wordHere_72 : decode cX8_wordHere 72 = .ok (.ireturn, 1) := dk_172 (dk_at dksX8_wordHere_3 0 rfl rfl)
abbrev cX8_isSmall : ByteArray := prog_30_method_14_code
def yX8_isSmall : MethodName := ⟨RX8, "isSmall", "(I)Z"⟩
def dkwX8_isSmall_0 : List UInt8 := [26, 16, 97, 161, 0, 13, 26, 16, 122, 163, 0, 7, 4, 167, 0, 4, 3, 172]
abbrev dktX8_isSmall_0 : List UInt8 := dkwX8_isSmall_0 ++ []
theorem dksX8_isSmall_0 : cX8_isSmall.data.toList.drop 0 = dktX8_isSmall_0 := by decide +kernel
theorem dX8_isSmall_0 : decode cX8_isSmall 0 = .ok (.iload_n 0, 1) := dk_26 (dk_at dksX8_isSmall_0 0 rfl rfl)
theorem dX8_isSmall_1 : decode cX8_isSmall 1 = .ok (.bipush 97, 2) := dk_16 97 (dk_at dksX8_isSmall_0 1 rfl rfl)
theorem dX8_isSmall_3 : decode cX8_isSmall 3 = .ok (.if_icmp .lt 13, 3) := dk_161 0 13 (dk_at dksX8_isSmall_0 3 rfl rfl)
theorem dX8_isSmall_6 : decode cX8_isSmall 6 = .ok (.iload_n 0, 1) := dk_26 (dk_at dksX8_isSmall_0 6 rfl rfl)
theorem dX8_isSmall_7 : decode cX8_isSmall 7 = .ok (.bipush 122, 2) := dk_16 122 (dk_at dksX8_isSmall_0 7 rfl rfl)
theorem dX8_isSmall_9 : decode cX8_isSmall 9 = .ok (.if_icmp .gt 7, 3) := dk_163 0 7 (dk_at dksX8_isSmall_0 9 rfl rfl)
theorem dX8_isSmall_12 : decode cX8_isSmall 12 = .ok (.iconst 1, 1) := dk_4 (dk_at dksX8_isSmall_0 12 rfl rfl)
theorem dX8_isSmall_13 : decode cX8_isSmall 13 = .ok (.goto 4, 3) := dk_167 0 4 (dk_at dksX8_isSmall_0 13 rfl rfl)
theorem dX8_isSmall_16 : decode cX8_isSmall 16 = .ok (.iconst 0, 1) := dk_3 (dk_at dksX8_isSmall_0 16 rfl rfl)
theorem dX8_isSmall_17 : decode cX8_isSmall 17 = .ok (.ireturn, 1) := dk_172 (dk_at dksX8_isSmall_0 17 rfl rfl)
abbrev cX8_six : ByteArray := prog_30_method_17_code
def yX8_six : MethodName := ⟨RX8, "six", "(IIIIII)I"⟩
def dkwX8_six_2 : List UInt8 := [96, 54, 6, 21, 5, 154, 0, 8, 21, 6, 167, 0, 11, 16, 27, 21, 6, 104, 21, 5, 96, 172]
abbrev dktX8_six_2 : List UInt8 := dkwX8_six_2 ++ []
def dkwX8_six_1 : List UInt8 := [21, 6, 104, 29, 96, 54, 6, 21, 4, 154, 0, 8, 21, 6, 167, 0, 11, 16, 27, 21, 6, 104, 21, 4]
abbrev dktX8_six_1 : List UInt8 := dkwX8_six_1 ++ dktX8_six_2
def dkwX8_six_0 : List UInt8 := [16, 27, 16, 27, 26, 104, 27, 96, 104, 28, 96, 54, 6, 29, 154, 0, 8, 21, 6, 167, 0, 10, 16, 27]
abbrev dktX8_six_0 : List UInt8 := dkwX8_six_0 ++ dktX8_six_1
theorem dksX8_six_0 : cX8_six.data.toList.drop 0 = dktX8_six_0 := by decide +kernel
theorem dksX8_six_1 : cX8_six.data.toList.drop 24 = dktX8_six_1 := dk_seg dksX8_six_0 24 rfl rfl
theorem dksX8_six_2 : cX8_six.data.toList.drop 48 = dktX8_six_2 := dk_seg dksX8_six_1 24 rfl rfl
theorem dX8_six_0 : decode cX8_six 0 = .ok (.bipush 27, 2) := dk_16 27 (dk_at dksX8_six_0 0 rfl rfl)
theorem dX8_six_2 : decode cX8_six 2 = .ok (.bipush 27, 2) := dk_16 27 (dk_at dksX8_six_0 2 rfl rfl)
theorem dX8_six_4 : decode cX8_six 4 = .ok (.iload_n 0, 1) := dk_26 (dk_at dksX8_six_0 4 rfl rfl)
theorem dX8_six_5 : decode cX8_six 5 = .ok (.imul, 1) := dk_104 (dk_at dksX8_six_0 5 rfl rfl)
theorem dX8_six_6 : decode cX8_six 6 = .ok (.iload_n 1, 1) := dk_27 (dk_at dksX8_six_0 6 rfl rfl)
theorem dX8_six_7 : decode cX8_six 7 = .ok (.iadd, 1) := dk_96 (dk_at dksX8_six_0 7 rfl rfl)
theorem dX8_six_8 : decode cX8_six 8 = .ok (.imul, 1) := dk_104 (dk_at dksX8_six_0 8 rfl rfl)
theorem dX8_six_9 : decode cX8_six 9 = .ok (.iload_n 2, 1) := dk_28 (dk_at dksX8_six_0 9 rfl rfl)
theorem dX8_six_10 : decode cX8_six 10 = .ok (.iadd, 1) := dk_96 (dk_at dksX8_six_0 10 rfl rfl)
theorem dX8_six_11 : decode cX8_six 11 = .ok (.istore 6, 2) := dk_54 6 (dk_at dksX8_six_0 11 rfl rfl)
theorem dX8_six_13 : decode cX8_six 13 = .ok (.iload_n 3, 1) := dk_29 (dk_at dksX8_six_0 13 rfl rfl)
theorem dX8_six_14 : decode cX8_six 14 = .ok (.ifCond .ne 8, 3) := dk_154 0 8 (dk_at dksX8_six_0 14 rfl rfl)
theorem dX8_six_17 : decode cX8_six 17 = .ok (.iload 6, 2) := dk_21 6 (dk_at dksX8_six_0 17 rfl rfl)
theorem dX8_six_19 : decode cX8_six 19 = .ok (.goto 10, 3) := dk_167 0 10 (dk_at dksX8_six_0 19 rfl rfl)
theorem dX8_six_22 : decode cX8_six 22 = .ok (.bipush 27, 2) := dk_16 27 (dk_at dksX8_six_0 22 rfl rfl)
theorem dX8_six_24 : decode cX8_six 24 = .ok (.iload 6, 2) := dk_21 6 (dk_at dksX8_six_1 0 rfl rfl)
theorem dX8_six_26 : decode cX8_six 26 = .ok (.imul, 1) := dk_104 (dk_at dksX8_six_1 2 rfl rfl)
theorem dX8_six_27 : decode cX8_six 27 = .ok (.iload_n 3, 1) := dk_29 (dk_at dksX8_six_1 3 rfl rfl)
theorem dX8_six_28 : decode cX8_six 28 = .ok (.iadd, 1) := dk_96 (dk_at dksX8_six_1 4 rfl rfl)
theorem dX8_six_29 : decode cX8_six 29 = .ok (.istore 6, 2) := dk_54 6 (dk_at dksX8_six_1 5 rfl rfl)
theorem dX8_six_31 : decode cX8_six 31 = .ok (.iload 4, 2) := dk_21 4 (dk_at dksX8_six_1 7 rfl rfl)
theorem dX8_six_33 : decode cX8_six 33 = .ok (.ifCond .ne 8, 3) := dk_154 0 8 (dk_at dksX8_six_1 9 rfl rfl)
theorem dX8_six_36 : decode cX8_six 36 = .ok (.iload 6, 2) := dk_21 6 (dk_at dksX8_six_1 12 rfl rfl)
theorem dX8_six_38 : decode cX8_six 38 = .ok (.goto 11, 3) := dk_167 0 11 (dk_at dksX8_six_1 14 rfl rfl)
theorem dX8_six_41 : decode cX8_six 41 = .ok (.bipush 27, 2) := dk_16 27 (dk_at dksX8_six_1 17 rfl rfl)
theorem dX8_six_43 : decode cX8_six 43 = .ok (.iload 6, 2) := dk_21 6 (dk_at dksX8_six_1 19 rfl rfl)
theorem dX8_six_45 : decode cX8_six 45 = .ok (.imul, 1) := dk_104 (dk_at dksX8_six_1 21 rfl rfl)
theorem dX8_six_46 : decode cX8_six 46 = .ok (.iload 4, 2) := dk_21 4 (dk_at dksX8_six_1 22 rfl rfl)
theorem dX8_six_48 : decode cX8_six 48 = .ok (.iadd, 1) := dk_96 (dk_at dksX8_six_2 0 rfl rfl)
theorem dX8_six_49 : decode cX8_six 49 = .ok (.istore 6, 2) := dk_54 6 (dk_at dksX8_six_2 1 rfl rfl)
theorem dX8_six_51 : decode cX8_six 51 = .ok (.iload 5, 2) := dk_21 5 (dk_at dksX8_six_2 3 rfl rfl)
theorem dX8_six_53 : decode cX8_six 53 = .ok (.ifCond .ne 8, 3) := dk_154 0 8 (dk_at dksX8_six_2 5 rfl rfl)
theorem dX8_six_56 : decode cX8_six 56 = .ok (.iload 6, 2) := dk_21 6 (dk_at dksX8_six_2 8 rfl rfl)
theorem dX8_six_58 : decode cX8_six 58 = .ok (.goto 11, 3) := dk_167 0 11 (dk_at dksX8_six_2 10 rfl rfl)
theorem dX8_six_61 : decode cX8_six 61 = .ok (.bipush 27, 2) := dk_16 27 (dk_at dksX8_six_2 13 rfl rfl)
theorem dX8_six_63 : decode cX8_six 63 = .ok (.iload 6, 2) := dk_21 6 (dk_at dksX8_six_2 15 rfl rfl)
theorem dX8_six_65 : decode cX8_six 65 = .ok (.imul, 1) := dk_104 (dk_at dksX8_six_2 17 rfl rfl)
theorem dX8_six_66 : decode cX8_six 66 = .ok (.iload 5, 2) := dk_21 5 (dk_at dksX8_six_2 18 rfl rfl)
theorem dX8_six_68 : decode cX8_six 68 = .ok (.iadd, 1) := dk_96 (dk_at dksX8_six_2 20 rfl rfl)
theorem dX8_six_69 : decode cX8_six 69 = .ok (.ireturn, 1) := dk_172 (dk_at dksX8_six_2 21 rfl rfl)
abbrev cX8_wrong : ByteArray := prog_30_method_12_code
def yX8_wrong : MethodName := ⟨RX8, "wrong", "(II)V"⟩
def dkwX8_wrong_0 : List UInt8 := [42, 180, 0, 122, 154, 0, 13, 42, 27, 181, 0, 122, 42, 28, 181, 0, 125, 177]
abbrev dktX8_wrong_0 : List UInt8 := dkwX8_wrong_0 ++ []
theorem dksX8_wrong_0 : cX8_wrong.data.toList.drop 0 = dktX8_wrong_0 := by decide +kernel
theorem dX8_wrong_0 : decode cX8_wrong 0 = .ok (.aload_n 0, 1) := dk_42 (dk_at dksX8_wrong_0 0 rfl rfl)
theorem dX8_wrong_1 : decode cX8_wrong 1 = .ok (.getfield 122, 3) := dk_180 0 122 (dk_at dksX8_wrong_0 1 rfl rfl)
theorem dX8_wrong_4 : decode cX8_wrong 4 = .ok (.ifCond .ne 13, 3) := dk_154 0 13 (dk_at dksX8_wrong_0 4 rfl rfl)
theorem dX8_wrong_7 : decode cX8_wrong 7 = .ok (.aload_n 0, 1) := dk_42 (dk_at dksX8_wrong_0 7 rfl rfl)
theorem dX8_wrong_8 : decode cX8_wrong 8 = .ok (.iload_n 1, 1) := dk_27 (dk_at dksX8_wrong_0 8 rfl rfl)
theorem dX8_wrong_9 : decode cX8_wrong 9 = .ok (.putfield 122, 3) := dk_181 0 122 (dk_at dksX8_wrong_0 9 rfl rfl)
theorem dX8_wrong_12 : decode cX8_wrong 12 = .ok (.aload_n 0, 1) := dk_42 (dk_at dksX8_wrong_0 12 rfl rfl)
theorem dX8_wrong_13 : decode cX8_wrong 13 = .ok (.iload_n 2, 1) := dk_28 (dk_at dksX8_wrong_0 13 rfl rfl)
theorem dX8_wrong_14 : decode cX8_wrong 14 = .ok (.putfield 125, 3) := dk_181 0 125 (dk_at dksX8_wrong_0 14 rfl rfl)
theorem dX8_wrong_17 : decode cX8_wrong 17 = .ok (.return_, 1) := dk_177 (dk_at dksX8_wrong_0 17 rfl rfl)
abbrev cX8_mostOf : ByteArray := prog_30_method_26_code
def yX8_mostOf : MethodName := ⟨RX8, "mostOf", "(I)I"⟩
def dkwX8_mostOf_0 : List UInt8 := [26, 154, 0, 8, 16, 8, 167, 0, 15, 26, 4, 160, 0, 8, 16, 12, 167, 0, 5, 16, 6, 172]
abbrev dktX8_mostOf_0 : List UInt8 := dkwX8_mostOf_0 ++ []
theorem dksX8_mostOf_0 : cX8_mostOf.data.toList.drop 0 = dktX8_mostOf_0 := by decide +kernel
theorem dX8_mostOf_0 : decode cX8_mostOf 0 = .ok (.iload_n 0, 1) := dk_26 (dk_at dksX8_mostOf_0 0 rfl rfl)
theorem dX8_mostOf_1 : decode cX8_mostOf 1 = .ok (.ifCond .ne 8, 3) := dk_154 0 8 (dk_at dksX8_mostOf_0 1 rfl rfl)
theorem dX8_mostOf_4 : decode cX8_mostOf 4 = .ok (.bipush 8, 2) := dk_16 8 (dk_at dksX8_mostOf_0 4 rfl rfl)
theorem dX8_mostOf_6 : decode cX8_mostOf 6 = .ok (.goto 15, 3) := dk_167 0 15 (dk_at dksX8_mostOf_0 6 rfl rfl)
theorem dX8_mostOf_9 : decode cX8_mostOf 9 = .ok (.iload_n 0, 1) := dk_26 (dk_at dksX8_mostOf_0 9 rfl rfl)
theorem dX8_mostOf_10 : decode cX8_mostOf 10 = .ok (.iconst 1, 1) := dk_4 (dk_at dksX8_mostOf_0 10 rfl rfl)
theorem dX8_mostOf_11 : decode cX8_mostOf 11 = .ok (.if_icmp .ne 8, 3) := dk_160 0 8 (dk_at dksX8_mostOf_0 11 rfl rfl)
theorem dX8_mostOf_14 : decode cX8_mostOf 14 = .ok (.bipush 12, 2) := dk_16 12 (dk_at dksX8_mostOf_0 14 rfl rfl)
theorem dX8_mostOf_16 : decode cX8_mostOf 16 = .ok (.goto 5, 3) := dk_167 0 5 (dk_at dksX8_mostOf_0 16 rfl rfl)
theorem dX8_mostOf_19 : decode cX8_mostOf 19 = .ok (.bipush 6, 2) := dk_16 6 (dk_at dksX8_mostOf_0 19 rfl rfl)
theorem dX8_mostOf_21 : decode cX8_mostOf 21 = .ok (.ireturn, 1) := dk_172 (dk_at dksX8_mostOf_0 21 rfl rfl)
abbrev cX8_skipWord : ByteArray := prog_30_method_19_code
def yX8_skipWord : MethodName := ⟨RX8, "skipWord", "()V"⟩
def dkwX8_skipWord_1 : List UInt8 := [167, 255, 232, 177]
abbrev dktX8_skipWord_1 : List UInt8 := dkwX8_skipWord_1 ++ []
def dkwX8_skipWord_0 : List UInt8 := [42, 42, 180, 0, 115, 182, 0, 118, 184, 0, 144, 153, 0, 16, 42, 89, 180, 0, 115, 4, 96, 181, 0, 115]
abbrev dktX8_skipWord_0 : List UInt8 := dkwX8_skipWord_0 ++ dktX8_skipWord_1
theorem dksX8_skipWord_0 : cX8_skipWord.data.toList.drop 0 = dktX8_skipWord_0 := by decide +kernel
theorem dksX8_skipWord_1 : cX8_skipWord.data.toList.drop 24 = dktX8_skipWord_1 := dk_seg dksX8_skipWord_0 24 rfl rfl
theorem dX8_skipWord_0 : decode cX8_skipWord 0 = .ok (.aload_n 0, 1) := dk_42 (dk_at dksX8_skipWord_0 0 rfl rfl)
theorem dX8_skipWord_1 : decode cX8_skipWord 1 = .ok (.aload_n 0, 1) := dk_42 (dk_at dksX8_skipWord_0 1 rfl rfl)
theorem dX8_skipWord_2 : decode cX8_skipWord 2 = .ok (.getfield 115, 3) := dk_180 0 115 (dk_at dksX8_skipWord_0 2 rfl rfl)
theorem dX8_skipWord_5 : decode cX8_skipWord 5 = .ok (.invokevirtual 118, 3) := dk_182 0 118 (dk_at dksX8_skipWord_0 5 rfl rfl)
theorem dX8_skipWord_8 : decode cX8_skipWord 8 = .ok (.invokestatic 144, 3) := dk_184 0 144 (dk_at dksX8_skipWord_0 8 rfl rfl)
theorem dX8_skipWord_11 : decode cX8_skipWord 11 = .ok (.ifCond .eq 16, 3) := dk_153 0 16 (dk_at dksX8_skipWord_0 11 rfl rfl)
theorem dX8_skipWord_14 : decode cX8_skipWord 14 = .ok (.aload_n 0, 1) := dk_42 (dk_at dksX8_skipWord_0 14 rfl rfl)
theorem dX8_skipWord_15 : decode cX8_skipWord 15 = .ok (.dup, 1) := dk_89 (dk_at dksX8_skipWord_0 15 rfl rfl)
theorem dX8_skipWord_16 : decode cX8_skipWord 16 = .ok (.getfield 115, 3) := dk_180 0 115 (dk_at dksX8_skipWord_0 16 rfl rfl)
theorem dX8_skipWord_19 : decode cX8_skipWord 19 = .ok (.iconst 1, 1) := dk_4 (dk_at dksX8_skipWord_0 19 rfl rfl)
theorem dX8_skipWord_20 : decode cX8_skipWord 20 = .ok (.iadd, 1) := dk_96 (dk_at dksX8_skipWord_0 20 rfl rfl)
theorem dX8_skipWord_21 : decode cX8_skipWord 21 = .ok (.putfield 115, 3) := dk_181 0 115 (dk_at dksX8_skipWord_0 21 rfl rfl)
theorem dX8_skipWord_24 : decode cX8_skipWord 24 = .ok (.goto (-24), 3) := dk_167 255 232 (dk_at dksX8_skipWord_1 0 rfl rfl)
theorem dX8_skipWord_27 : decode cX8_skipWord 27 = .ok (.return_, 1) := dk_177 (dk_at dksX8_skipWord_1 3 rfl rfl)
abbrev cX8_number : ByteArray := prog_30_method_15_code
def yX8_number : MethodName := ⟨RX8, "number", "(II)I"⟩
def dkwX8_number_5 : List UInt8 := [154, 0, 9, 42, 5, 29, 182, 0, 135, 42, 180, 0, 122, 154, 0, 8, 21, 4, 167, 0, 4, 3, 172]
abbrev dktX8_number_5 : List UInt8 := dkwX8_number_5 ++ []
def dkwX8_number_4 : List UInt8 := [54, 4, 42, 89, 180, 0, 115, 4, 96, 181, 0, 115, 167, 255, 197, 21, 4, 27, 28, 184, 0, 140]
abbrev dktX8_number_4 : List UInt8 := dkwX8_number_4 ++ dktX8_number_5
def dkwX8_number_3 : List UInt8 := [182, 0, 118, 96, 16, 48, 100, 54, 4, 21, 4, 18, 139, 164, 0, 8, 18, 139, 167, 0, 5, 21, 4]
abbrev dktX8_number_3 : List UInt8 := dkwX8_number_3 ++ dktX8_number_4
def dkwX8_number_2 : List UInt8 := [180, 0, 115, 182, 0, 118, 184, 0, 131, 153, 0, 51, 16, 10, 21, 4, 104, 42, 42, 180, 0, 115]
abbrev dktX8_number_2 : List UInt8 := dkwX8_number_2 ++ dktX8_number_3
def dkwX8_number_1 : List UInt8 := [180, 0, 115, 182, 0, 118, 184, 0, 131, 154, 0, 12, 42, 4, 42, 180, 0, 115, 182, 0, 135, 42, 42]
abbrev dktX8_number_1 : List UInt8 := dkwX8_number_1 ++ dktX8_number_2
def dkwX8_number_0 : List UInt8 := [42, 180, 0, 122, 153, 0, 5, 3, 172, 42, 182, 0, 128, 42, 180, 0, 115, 62, 3, 54, 4, 42, 42]
abbrev dktX8_number_0 : List UInt8 := dkwX8_number_0 ++ dktX8_number_1
theorem dksX8_number_0 : cX8_number.data.toList.drop 0 = dktX8_number_0 := by decide +kernel
theorem dksX8_number_1 : cX8_number.data.toList.drop 23 = dktX8_number_1 := dk_seg dksX8_number_0 23 rfl rfl
theorem dksX8_number_2 : cX8_number.data.toList.drop 46 = dktX8_number_2 := dk_seg dksX8_number_1 23 rfl rfl
theorem dksX8_number_3 : cX8_number.data.toList.drop 68 = dktX8_number_3 := dk_seg dksX8_number_2 22 rfl rfl
theorem dksX8_number_4 : cX8_number.data.toList.drop 91 = dktX8_number_4 := dk_seg dksX8_number_3 23 rfl rfl
theorem dksX8_number_5 : cX8_number.data.toList.drop 113 = dktX8_number_5 := dk_seg dksX8_number_4 22 rfl rfl
theorem dX8_number_0 : decode cX8_number 0 = .ok (.aload_n 0, 1) := dk_42 (dk_at dksX8_number_0 0 rfl rfl)
theorem dX8_number_1 : decode cX8_number 1 = .ok (.getfield 122, 3) := dk_180 0 122 (dk_at dksX8_number_0 1 rfl rfl)
theorem dX8_number_4 : decode cX8_number 4 = .ok (.ifCond .eq 5, 3) := dk_153 0 5 (dk_at dksX8_number_0 4 rfl rfl)
theorem dX8_number_7 : decode cX8_number 7 = .ok (.iconst 0, 1) := dk_3 (dk_at dksX8_number_0 7 rfl rfl)
theorem dX8_number_8 : decode cX8_number 8 = .ok (.ireturn, 1) := dk_172 (dk_at dksX8_number_0 8 rfl rfl)
theorem dX8_number_9 : decode cX8_number 9 = .ok (.aload_n 0, 1) := dk_42 (dk_at dksX8_number_0 9 rfl rfl)
theorem dX8_number_10 : decode cX8_number 10 = .ok (.invokevirtual 128, 3) := dk_182 0 128 (dk_at dksX8_number_0 10 rfl rfl)
theorem dX8_number_13 : decode cX8_number 13 = .ok (.aload_n 0, 1) := dk_42 (dk_at dksX8_number_0 13 rfl rfl)
theorem dX8_number_14 : decode cX8_number 14 = .ok (.getfield 115, 3) := dk_180 0 115 (dk_at dksX8_number_0 14 rfl rfl)
theorem dX8_number_17 : decode cX8_number 17 = .ok (.istore_n 3, 1) := dk_62 (dk_at dksX8_number_0 17 rfl rfl)
theorem dX8_number_18 : decode cX8_number 18 = .ok (.iconst 0, 1) := dk_3 (dk_at dksX8_number_0 18 rfl rfl)
theorem dX8_number_19 : decode cX8_number 19 = .ok (.istore 4, 2) := dk_54 4 (dk_at dksX8_number_0 19 rfl rfl)
theorem dX8_number_21 : decode cX8_number 21 = .ok (.aload_n 0, 1) := dk_42 (dk_at dksX8_number_0 21 rfl rfl)
theorem dX8_number_22 : decode cX8_number 22 = .ok (.aload_n 0, 1) := dk_42 (dk_at dksX8_number_0 22 rfl rfl)
theorem dX8_number_23 : decode cX8_number 23 = .ok (.getfield 115, 3) := dk_180 0 115 (dk_at dksX8_number_1 0 rfl rfl)
theorem dX8_number_26 : decode cX8_number 26 = .ok (.invokevirtual 118, 3) := dk_182 0 118 (dk_at dksX8_number_1 3 rfl rfl)
theorem dX8_number_29 : decode cX8_number 29 = .ok (.invokestatic 131, 3) := dk_184 0 131 (dk_at dksX8_number_1 6 rfl rfl)
theorem dX8_number_32 : decode cX8_number 32 = .ok (.ifCond .ne 12, 3) := dk_154 0 12 (dk_at dksX8_number_1 9 rfl rfl)
theorem dX8_number_35 : decode cX8_number 35 = .ok (.aload_n 0, 1) := dk_42 (dk_at dksX8_number_1 12 rfl rfl)
theorem dX8_number_36 : decode cX8_number 36 = .ok (.iconst 1, 1) := dk_4 (dk_at dksX8_number_1 13 rfl rfl)
theorem dX8_number_37 : decode cX8_number 37 = .ok (.aload_n 0, 1) := dk_42 (dk_at dksX8_number_1 14 rfl rfl)
theorem dX8_number_38 : decode cX8_number 38 = .ok (.getfield 115, 3) := dk_180 0 115 (dk_at dksX8_number_1 15 rfl rfl)
theorem dX8_number_41 : decode cX8_number 41 = .ok (.invokevirtual 135, 3) := dk_182 0 135 (dk_at dksX8_number_1 18 rfl rfl)
theorem dX8_number_44 : decode cX8_number 44 = .ok (.aload_n 0, 1) := dk_42 (dk_at dksX8_number_1 21 rfl rfl)
theorem dX8_number_45 : decode cX8_number 45 = .ok (.aload_n 0, 1) := dk_42 (dk_at dksX8_number_1 22 rfl rfl)
theorem dX8_number_46 : decode cX8_number 46 = .ok (.getfield 115, 3) := dk_180 0 115 (dk_at dksX8_number_2 0 rfl rfl)
theorem dX8_number_49 : decode cX8_number 49 = .ok (.invokevirtual 118, 3) := dk_182 0 118 (dk_at dksX8_number_2 3 rfl rfl)
theorem dX8_number_52 : decode cX8_number 52 = .ok (.invokestatic 131, 3) := dk_184 0 131 (dk_at dksX8_number_2 6 rfl rfl)
theorem dX8_number_55 : decode cX8_number 55 = .ok (.ifCond .eq 51, 3) := dk_153 0 51 (dk_at dksX8_number_2 9 rfl rfl)
theorem dX8_number_58 : decode cX8_number 58 = .ok (.bipush 10, 2) := dk_16 10 (dk_at dksX8_number_2 12 rfl rfl)
theorem dX8_number_60 : decode cX8_number 60 = .ok (.iload 4, 2) := dk_21 4 (dk_at dksX8_number_2 14 rfl rfl)
theorem dX8_number_62 : decode cX8_number 62 = .ok (.imul, 1) := dk_104 (dk_at dksX8_number_2 16 rfl rfl)
theorem dX8_number_63 : decode cX8_number 63 = .ok (.aload_n 0, 1) := dk_42 (dk_at dksX8_number_2 17 rfl rfl)
theorem dX8_number_64 : decode cX8_number 64 = .ok (.aload_n 0, 1) := dk_42 (dk_at dksX8_number_2 18 rfl rfl)
theorem dX8_number_65 : decode cX8_number 65 = .ok (.getfield 115, 3) := dk_180 0 115 (dk_at dksX8_number_2 19 rfl rfl)
theorem dX8_number_68 : decode cX8_number 68 = .ok (.invokevirtual 118, 3) := dk_182 0 118 (dk_at dksX8_number_3 0 rfl rfl)
theorem dX8_number_71 : decode cX8_number 71 = .ok (.iadd, 1) := dk_96 (dk_at dksX8_number_3 3 rfl rfl)
theorem dX8_number_72 : decode cX8_number 72 = .ok (.bipush 48, 2) := dk_16 48 (dk_at dksX8_number_3 4 rfl rfl)
theorem dX8_number_74 : decode cX8_number 74 = .ok (.isub, 1) := dk_100 (dk_at dksX8_number_3 6 rfl rfl)
theorem dX8_number_75 : decode cX8_number 75 = .ok (.istore 4, 2) := dk_54 4 (dk_at dksX8_number_3 7 rfl rfl)
theorem dX8_number_77 : decode cX8_number 77 = .ok (.iload 4, 2) := dk_21 4 (dk_at dksX8_number_3 9 rfl rfl)
theorem dX8_number_79 : decode cX8_number 79 = .ok (.ldc 139, 2) := dk_18 139 (dk_at dksX8_number_3 11 rfl rfl)
theorem dX8_number_81 : decode cX8_number 81 = .ok (.if_icmp .le 8, 3) := dk_164 0 8 (dk_at dksX8_number_3 13 rfl rfl)
theorem dX8_number_84 : decode cX8_number 84 = .ok (.ldc 139, 2) := dk_18 139 (dk_at dksX8_number_3 16 rfl rfl)
theorem dX8_number_86 : decode cX8_number 86 = .ok (.goto 5, 3) := dk_167 0 5 (dk_at dksX8_number_3 18 rfl rfl)
theorem dX8_number_89 : decode cX8_number 89 = .ok (.iload 4, 2) := dk_21 4 (dk_at dksX8_number_3 21 rfl rfl)
theorem dX8_number_91 : decode cX8_number 91 = .ok (.istore 4, 2) := dk_54 4 (dk_at dksX8_number_4 0 rfl rfl)
theorem dX8_number_93 : decode cX8_number 93 = .ok (.aload_n 0, 1) := dk_42 (dk_at dksX8_number_4 2 rfl rfl)
theorem dX8_number_94 : decode cX8_number 94 = .ok (.dup, 1) := dk_89 (dk_at dksX8_number_4 3 rfl rfl)
theorem dX8_number_95 : decode cX8_number 95 = .ok (.getfield 115, 3) := dk_180 0 115 (dk_at dksX8_number_4 4 rfl rfl)
theorem dX8_number_98 : decode cX8_number 98 = .ok (.iconst 1, 1) := dk_4 (dk_at dksX8_number_4 7 rfl rfl)
theorem dX8_number_99 : decode cX8_number 99 = .ok (.iadd, 1) := dk_96 (dk_at dksX8_number_4 8 rfl rfl)
theorem dX8_number_100 : decode cX8_number 100 = .ok (.putfield 115, 3) := dk_181 0 115 (dk_at dksX8_number_4 9 rfl rfl)
theorem dX8_number_103 : decode cX8_number 103 = .ok (.goto (-59), 3) := dk_167 255 197 (dk_at dksX8_number_4 12 rfl rfl)
theorem dX8_number_106 : decode cX8_number 106 = .ok (.iload 4, 2) := dk_21 4 (dk_at dksX8_number_4 15 rfl rfl)
theorem dX8_number_108 : decode cX8_number 108 = .ok (.iload_n 1, 1) := dk_27 (dk_at dksX8_number_4 17 rfl rfl)
theorem dX8_number_109 : decode cX8_number 109 = .ok (.iload_n 2, 1) := dk_28 (dk_at dksX8_number_4 18 rfl rfl)
theorem dX8_number_110 : decode cX8_number 110 = .ok (.invokestatic 140, 3) := dk_184 0 140 (dk_at dksX8_number_4 19 rfl rfl)
theorem dX8_number_113 : decode cX8_number 113 = .ok (.ifCond .ne 9, 3) := dk_154 0 9 (dk_at dksX8_number_5 0 rfl rfl)
theorem dX8_number_116 : decode cX8_number 116 = .ok (.aload_n 0, 1) := dk_42 (dk_at dksX8_number_5 3 rfl rfl)
theorem dX8_number_117 : decode cX8_number 117 = .ok (.iconst 2, 1) := dk_5 (dk_at dksX8_number_5 4 rfl rfl)
theorem dX8_number_118 : decode cX8_number 118 = .ok (.iload_n 3, 1) := dk_29 (dk_at dksX8_number_5 5 rfl rfl)
theorem dX8_number_119 : decode cX8_number 119 = .ok (.invokevirtual 135, 3) := dk_182 0 135 (dk_at dksX8_number_5 6 rfl rfl)
theorem dX8_number_122 : decode cX8_number 122 = .ok (.aload_n 0, 1) := dk_42 (dk_at dksX8_number_5 9 rfl rfl)
theorem dX8_number_123 : decode cX8_number 123 = .ok (.getfield 122, 3) := dk_180 0 122 (dk_at dksX8_number_5 10 rfl rfl)
theorem dX8_number_126 : decode cX8_number 126 = .ok (.ifCond .ne 8, 3) := dk_154 0 8 (dk_at dksX8_number_5 13 rfl rfl)
theorem dX8_number_129 : decode cX8_number 129 = .ok (.iload 4, 2) := dk_21 4 (dk_at dksX8_number_5 16 rfl rfl)
theorem dX8_number_131 : decode cX8_number 131 = .ok (.goto 4, 3) := dk_167 0 4 (dk_at dksX8_number_5 18 rfl rfl)
theorem dX8_number_134 : decode cX8_number 134 = .ok (.iconst 0, 1) := dk_3 (dk_at dksX8_number_5 21 rfl rfl)
theorem dX8_number_135 : decode cX8_number 135 = .ok (.ireturn, 1) := dk_172 (dk_at dksX8_number_5 22 rfl rfl)
abbrev cX8_isDigit : ByteArray := prog_30_method_13_code
def yX8_isDigit : MethodName := ⟨RX8, "isDigit", "(I)Z"⟩
def dkwX8_isDigit_0 : List UInt8 := [26, 16, 48, 161, 0, 13, 26, 16, 57, 163, 0, 7, 4, 167, 0, 4, 3, 172]
abbrev dktX8_isDigit_0 : List UInt8 := dkwX8_isDigit_0 ++ []
theorem dksX8_isDigit_0 : cX8_isDigit.data.toList.drop 0 = dktX8_isDigit_0 := by decide +kernel
theorem dX8_isDigit_0 : decode cX8_isDigit 0 = .ok (.iload_n 0, 1) := dk_26 (dk_at dksX8_isDigit_0 0 rfl rfl)
theorem dX8_isDigit_1 : decode cX8_isDigit 1 = .ok (.bipush 48, 2) := dk_16 48 (dk_at dksX8_isDigit_0 1 rfl rfl)
theorem dX8_isDigit_3 : decode cX8_isDigit 3 = .ok (.if_icmp .lt 13, 3) := dk_161 0 13 (dk_at dksX8_isDigit_0 3 rfl rfl)
theorem dX8_isDigit_6 : decode cX8_isDigit 6 = .ok (.iload_n 0, 1) := dk_26 (dk_at dksX8_isDigit_0 6 rfl rfl)
theorem dX8_isDigit_7 : decode cX8_isDigit 7 = .ok (.bipush 57, 2) := dk_16 57 (dk_at dksX8_isDigit_0 7 rfl rfl)
theorem dX8_isDigit_9 : decode cX8_isDigit 9 = .ok (.if_icmp .gt 7, 3) := dk_163 0 7 (dk_at dksX8_isDigit_0 9 rfl rfl)
theorem dX8_isDigit_12 : decode cX8_isDigit 12 = .ok (.iconst 1, 1) := dk_4 (dk_at dksX8_isDigit_0 12 rfl rfl)
theorem dX8_isDigit_13 : decode cX8_isDigit 13 = .ok (.goto 4, 3) := dk_167 0 4 (dk_at dksX8_isDigit_0 13 rfl rfl)
theorem dX8_isDigit_16 : decode cX8_isDigit 16 = .ok (.iconst 0, 1) := dk_3 (dk_at dksX8_isDigit_0 16 rfl rfl)
theorem dX8_isDigit_17 : decode cX8_isDigit 17 = .ok (.ireturn, 1) := dk_172 (dk_at dksX8_isDigit_0 17 rfl rfl)
abbrev cX8_readHouse : ByteArray := prog_30_method_27_code
def yX8_readHouse : MethodName := ⟨RX8, "readHouse", "()I"⟩
def dkwX8_readHouse_0 : List UInt8 := [42, 3, 42, 180, 0, 20, 3, 46, 4, 100, 182, 0, 168, 172]
abbrev dktX8_readHouse_0 : List UInt8 := dkwX8_readHouse_0 ++ []
theorem dksX8_readHouse_0 : cX8_readHouse.data.toList.drop 0 = dktX8_readHouse_0 := by decide +kernel
theorem dX8_readHouse_0 : decode cX8_readHouse 0 = .ok (.aload_n 0, 1) := dk_42 (dk_at dksX8_readHouse_0 0 rfl rfl)
theorem dX8_readHouse_1 : decode cX8_readHouse 1 = .ok (.iconst 0, 1) := dk_3 (dk_at dksX8_readHouse_0 1 rfl rfl)
theorem dX8_readHouse_2 : decode cX8_readHouse 2 = .ok (.aload_n 0, 1) := dk_42 (dk_at dksX8_readHouse_0 2 rfl rfl)
theorem dX8_readHouse_3 : decode cX8_readHouse 3 = .ok (.getfield 20, 3) := dk_180 0 20 (dk_at dksX8_readHouse_0 3 rfl rfl)
theorem dX8_readHouse_6 : decode cX8_readHouse 6 = .ok (.iconst 0, 1) := dk_3 (dk_at dksX8_readHouse_0 6 rfl rfl)
theorem dX8_readHouse_7 : decode cX8_readHouse 7 = .ok (.iaload, 1) := dk_46 (dk_at dksX8_readHouse_0 7 rfl rfl)
theorem dX8_readHouse_8 : decode cX8_readHouse 8 = .ok (.iconst 1, 1) := dk_4 (dk_at dksX8_readHouse_0 8 rfl rfl)
theorem dX8_readHouse_9 : decode cX8_readHouse 9 = .ok (.isub, 1) := dk_100 (dk_at dksX8_readHouse_0 9 rfl rfl)
theorem dX8_readHouse_10 : decode cX8_readHouse 10 = .ok (.invokevirtual 168, 3) := dk_182 0 168 (dk_at dksX8_readHouse_0 10 rfl rfl)
theorem dX8_readHouse_13 : decode cX8_readHouse 13 = .ok (.ireturn, 1) := dk_172 (dk_at dksX8_readHouse_0 13 rfl rfl)
abbrev cX8_isReadWall : ByteArray := prog_30_method_28_code
def yX8_isReadWall : MethodName := ⟨RX8, "isReadWall", "(II)Z"⟩
def dkwX8_isReadWall_2 : List UInt8 := [42, 180, 0, 40, 29, 50, 4, 46, 27, 160, 0, 5, 4, 172, 132, 3, 1, 167, 255, 193, 3, 172]
abbrev dktX8_isReadWall_2 : List UInt8 := dkwX8_isReadWall_2 ++ []
def dkwX8_isReadWall_1 : List UInt8 := [42, 180, 0, 40, 29, 50, 4, 46, 28, 159, 0, 27, 42, 180, 0, 40, 29, 50, 3, 46, 28, 160, 0, 17]
abbrev dktX8_isReadWall_1 : List UInt8 := dkwX8_isReadWall_1 ++ dktX8_isReadWall_2
def dkwX8_isReadWall_0 : List UInt8 := [3, 62, 29, 42, 180, 0, 20, 4, 46, 162, 0, 59, 42, 180, 0, 40, 29, 50, 3, 46, 27, 160, 0, 15]
abbrev dktX8_isReadWall_0 : List UInt8 := dkwX8_isReadWall_0 ++ dktX8_isReadWall_1
theorem dksX8_isReadWall_0 : cX8_isReadWall.data.toList.drop 0 = dktX8_isReadWall_0 := by decide +kernel
theorem dksX8_isReadWall_1 : cX8_isReadWall.data.toList.drop 24 = dktX8_isReadWall_1 := dk_seg dksX8_isReadWall_0 24 rfl rfl
theorem dksX8_isReadWall_2 : cX8_isReadWall.data.toList.drop 48 = dktX8_isReadWall_2 := dk_seg dksX8_isReadWall_1 24 rfl rfl
theorem dX8_isReadWall_0 : decode cX8_isReadWall 0 = .ok (.iconst 0, 1) := dk_3 (dk_at dksX8_isReadWall_0 0 rfl rfl)
theorem dX8_isReadWall_1 : decode cX8_isReadWall 1 = .ok (.istore_n 3, 1) := dk_62 (dk_at dksX8_isReadWall_0 1 rfl rfl)
theorem dX8_isReadWall_2 : decode cX8_isReadWall 2 = .ok (.iload_n 3, 1) := dk_29 (dk_at dksX8_isReadWall_0 2 rfl rfl)
theorem dX8_isReadWall_3 : decode cX8_isReadWall 3 = .ok (.aload_n 0, 1) := dk_42 (dk_at dksX8_isReadWall_0 3 rfl rfl)
theorem dX8_isReadWall_4 : decode cX8_isReadWall 4 = .ok (.getfield 20, 3) := dk_180 0 20 (dk_at dksX8_isReadWall_0 4 rfl rfl)
theorem dX8_isReadWall_7 : decode cX8_isReadWall 7 = .ok (.iconst 1, 1) := dk_4 (dk_at dksX8_isReadWall_0 7 rfl rfl)
theorem dX8_isReadWall_8 : decode cX8_isReadWall 8 = .ok (.iaload, 1) := dk_46 (dk_at dksX8_isReadWall_0 8 rfl rfl)
theorem dX8_isReadWall_9 : decode cX8_isReadWall 9 = .ok (.if_icmp .ge 59, 3) := dk_162 0 59 (dk_at dksX8_isReadWall_0 9 rfl rfl)
theorem dX8_isReadWall_12 : decode cX8_isReadWall 12 = .ok (.aload_n 0, 1) := dk_42 (dk_at dksX8_isReadWall_0 12 rfl rfl)
theorem dX8_isReadWall_13 : decode cX8_isReadWall 13 = .ok (.getfield 40, 3) := dk_180 0 40 (dk_at dksX8_isReadWall_0 13 rfl rfl)
theorem dX8_isReadWall_16 : decode cX8_isReadWall 16 = .ok (.iload_n 3, 1) := dk_29 (dk_at dksX8_isReadWall_0 16 rfl rfl)
theorem dX8_isReadWall_17 : decode cX8_isReadWall 17 = .ok (.aaload, 1) := dk_50 (dk_at dksX8_isReadWall_0 17 rfl rfl)
theorem dX8_isReadWall_18 : decode cX8_isReadWall 18 = .ok (.iconst 0, 1) := dk_3 (dk_at dksX8_isReadWall_0 18 rfl rfl)
theorem dX8_isReadWall_19 : decode cX8_isReadWall 19 = .ok (.iaload, 1) := dk_46 (dk_at dksX8_isReadWall_0 19 rfl rfl)
theorem dX8_isReadWall_20 : decode cX8_isReadWall 20 = .ok (.iload_n 1, 1) := dk_27 (dk_at dksX8_isReadWall_0 20 rfl rfl)
theorem dX8_isReadWall_21 : decode cX8_isReadWall 21 = .ok (.if_icmp .ne 15, 3) := dk_160 0 15 (dk_at dksX8_isReadWall_0 21 rfl rfl)
theorem dX8_isReadWall_24 : decode cX8_isReadWall 24 = .ok (.aload_n 0, 1) := dk_42 (dk_at dksX8_isReadWall_1 0 rfl rfl)
theorem dX8_isReadWall_25 : decode cX8_isReadWall 25 = .ok (.getfield 40, 3) := dk_180 0 40 (dk_at dksX8_isReadWall_1 1 rfl rfl)
theorem dX8_isReadWall_28 : decode cX8_isReadWall 28 = .ok (.iload_n 3, 1) := dk_29 (dk_at dksX8_isReadWall_1 4 rfl rfl)
theorem dX8_isReadWall_29 : decode cX8_isReadWall 29 = .ok (.aaload, 1) := dk_50 (dk_at dksX8_isReadWall_1 5 rfl rfl)
theorem dX8_isReadWall_30 : decode cX8_isReadWall 30 = .ok (.iconst 1, 1) := dk_4 (dk_at dksX8_isReadWall_1 6 rfl rfl)
theorem dX8_isReadWall_31 : decode cX8_isReadWall 31 = .ok (.iaload, 1) := dk_46 (dk_at dksX8_isReadWall_1 7 rfl rfl)
theorem dX8_isReadWall_32 : decode cX8_isReadWall 32 = .ok (.iload_n 2, 1) := dk_28 (dk_at dksX8_isReadWall_1 8 rfl rfl)
theorem dX8_isReadWall_33 : decode cX8_isReadWall 33 = .ok (.if_icmp .eq 27, 3) := dk_159 0 27 (dk_at dksX8_isReadWall_1 9 rfl rfl)
theorem dX8_isReadWall_36 : decode cX8_isReadWall 36 = .ok (.aload_n 0, 1) := dk_42 (dk_at dksX8_isReadWall_1 12 rfl rfl)
theorem dX8_isReadWall_37 : decode cX8_isReadWall 37 = .ok (.getfield 40, 3) := dk_180 0 40 (dk_at dksX8_isReadWall_1 13 rfl rfl)
theorem dX8_isReadWall_40 : decode cX8_isReadWall 40 = .ok (.iload_n 3, 1) := dk_29 (dk_at dksX8_isReadWall_1 16 rfl rfl)
theorem dX8_isReadWall_41 : decode cX8_isReadWall 41 = .ok (.aaload, 1) := dk_50 (dk_at dksX8_isReadWall_1 17 rfl rfl)
theorem dX8_isReadWall_42 : decode cX8_isReadWall 42 = .ok (.iconst 0, 1) := dk_3 (dk_at dksX8_isReadWall_1 18 rfl rfl)
theorem dX8_isReadWall_43 : decode cX8_isReadWall 43 = .ok (.iaload, 1) := dk_46 (dk_at dksX8_isReadWall_1 19 rfl rfl)
theorem dX8_isReadWall_44 : decode cX8_isReadWall 44 = .ok (.iload_n 2, 1) := dk_28 (dk_at dksX8_isReadWall_1 20 rfl rfl)
theorem dX8_isReadWall_45 : decode cX8_isReadWall 45 = .ok (.if_icmp .ne 17, 3) := dk_160 0 17 (dk_at dksX8_isReadWall_1 21 rfl rfl)
theorem dX8_isReadWall_48 : decode cX8_isReadWall 48 = .ok (.aload_n 0, 1) := dk_42 (dk_at dksX8_isReadWall_2 0 rfl rfl)
theorem dX8_isReadWall_49 : decode cX8_isReadWall 49 = .ok (.getfield 40, 3) := dk_180 0 40 (dk_at dksX8_isReadWall_2 1 rfl rfl)
theorem dX8_isReadWall_52 : decode cX8_isReadWall 52 = .ok (.iload_n 3, 1) := dk_29 (dk_at dksX8_isReadWall_2 4 rfl rfl)
theorem dX8_isReadWall_53 : decode cX8_isReadWall 53 = .ok (.aaload, 1) := dk_50 (dk_at dksX8_isReadWall_2 5 rfl rfl)
theorem dX8_isReadWall_54 : decode cX8_isReadWall 54 = .ok (.iconst 1, 1) := dk_4 (dk_at dksX8_isReadWall_2 6 rfl rfl)
theorem dX8_isReadWall_55 : decode cX8_isReadWall 55 = .ok (.iaload, 1) := dk_46 (dk_at dksX8_isReadWall_2 7 rfl rfl)
theorem dX8_isReadWall_56 : decode cX8_isReadWall 56 = .ok (.iload_n 1, 1) := dk_27 (dk_at dksX8_isReadWall_2 8 rfl rfl)
theorem dX8_isReadWall_57 : decode cX8_isReadWall 57 = .ok (.if_icmp .ne 5, 3) := dk_160 0 5 (dk_at dksX8_isReadWall_2 9 rfl rfl)
theorem dX8_isReadWall_60 : decode cX8_isReadWall 60 = .ok (.iconst 1, 1) := dk_4 (dk_at dksX8_isReadWall_2 12 rfl rfl)
theorem dX8_isReadWall_61 : decode cX8_isReadWall 61 = .ok (.ireturn, 1) := dk_172 (dk_at dksX8_isReadWall_2 13 rfl rfl)
theorem dX8_isReadWall_62 : decode cX8_isReadWall 62 = .ok (.iinc 3 1, 3) := dk_132 3 1 (dk_at dksX8_isReadWall_2 14 rfl rfl)
theorem dX8_isReadWall_65 : decode cX8_isReadWall 65 = .ok (.goto (-63), 3) := dk_167 255 193 (dk_at dksX8_isReadWall_2 17 rfl rfl)
theorem dX8_isReadWall_68 : decode cX8_isReadWall 68 = .ok (.iconst 0, 1) := dk_3 (dk_at dksX8_isReadWall_2 20 rfl rfl)
theorem dX8_isReadWall_69 : decode cX8_isReadWall 69 = .ok (.ireturn, 1) := dk_172 (dk_at dksX8_isReadWall_2 21 rfl rfl)
abbrev cX8_sign : ByteArray := prog_30_method_21_code
def yX8_sign : MethodName := ⟨RX8, "sign", "(I)V"⟩
def dkwX8_sign_1 : List UInt8 := [42, 89, 180, 0, 115, 4, 96, 181, 0, 115, 167, 0, 12, 42, 4, 42, 180, 0, 115, 182, 0, 135, 177]
abbrev dktX8_sign_1 : List UInt8 := dkwX8_sign_1 ++ []
def dkwX8_sign_0 : List UInt8 := [42, 180, 0, 122, 153, 0, 4, 177, 42, 182, 0, 128, 42, 42, 180, 0, 115, 182, 0, 118, 27, 160, 0, 16]
abbrev dktX8_sign_0 : List UInt8 := dkwX8_sign_0 ++ dktX8_sign_1
theorem dksX8_sign_0 : cX8_sign.data.toList.drop 0 = dktX8_sign_0 := by decide +kernel
theorem dksX8_sign_1 : cX8_sign.data.toList.drop 24 = dktX8_sign_1 := dk_seg dksX8_sign_0 24 rfl rfl
theorem dX8_sign_0 : decode cX8_sign 0 = .ok (.aload_n 0, 1) := dk_42 (dk_at dksX8_sign_0 0 rfl rfl)
theorem dX8_sign_1 : decode cX8_sign 1 = .ok (.getfield 122, 3) := dk_180 0 122 (dk_at dksX8_sign_0 1 rfl rfl)
theorem dX8_sign_4 : decode cX8_sign 4 = .ok (.ifCond .eq 4, 3) := dk_153 0 4 (dk_at dksX8_sign_0 4 rfl rfl)
theorem dX8_sign_7 : decode cX8_sign 7 = .ok (.return_, 1) := dk_177 (dk_at dksX8_sign_0 7 rfl rfl)
theorem dX8_sign_8 : decode cX8_sign 8 = .ok (.aload_n 0, 1) := dk_42 (dk_at dksX8_sign_0 8 rfl rfl)
theorem dX8_sign_9 : decode cX8_sign 9 = .ok (.invokevirtual 128, 3) := dk_182 0 128 (dk_at dksX8_sign_0 9 rfl rfl)
theorem dX8_sign_12 : decode cX8_sign 12 = .ok (.aload_n 0, 1) := dk_42 (dk_at dksX8_sign_0 12 rfl rfl)
theorem dX8_sign_13 : decode cX8_sign 13 = .ok (.aload_n 0, 1) := dk_42 (dk_at dksX8_sign_0 13 rfl rfl)
theorem dX8_sign_14 : decode cX8_sign 14 = .ok (.getfield 115, 3) := dk_180 0 115 (dk_at dksX8_sign_0 14 rfl rfl)
theorem dX8_sign_17 : decode cX8_sign 17 = .ok (.invokevirtual 118, 3) := dk_182 0 118 (dk_at dksX8_sign_0 17 rfl rfl)
theorem dX8_sign_20 : decode cX8_sign 20 = .ok (.iload_n 1, 1) := dk_27 (dk_at dksX8_sign_0 20 rfl rfl)
theorem dX8_sign_21 : decode cX8_sign 21 = .ok (.if_icmp .ne 16, 3) := dk_160 0 16 (dk_at dksX8_sign_0 21 rfl rfl)
theorem dX8_sign_24 : decode cX8_sign 24 = .ok (.aload_n 0, 1) := dk_42 (dk_at dksX8_sign_1 0 rfl rfl)
theorem dX8_sign_25 : decode cX8_sign 25 = .ok (.dup, 1) := dk_89 (dk_at dksX8_sign_1 1 rfl rfl)
theorem dX8_sign_26 : decode cX8_sign 26 = .ok (.getfield 115, 3) := dk_180 0 115 (dk_at dksX8_sign_1 2 rfl rfl)
theorem dX8_sign_29 : decode cX8_sign 29 = .ok (.iconst 1, 1) := dk_4 (dk_at dksX8_sign_1 5 rfl rfl)
theorem dX8_sign_30 : decode cX8_sign 30 = .ok (.iadd, 1) := dk_96 (dk_at dksX8_sign_1 6 rfl rfl)
theorem dX8_sign_31 : decode cX8_sign 31 = .ok (.putfield 115, 3) := dk_181 0 115 (dk_at dksX8_sign_1 7 rfl rfl)
theorem dX8_sign_34 : decode cX8_sign 34 = .ok (.goto 12, 3) := dk_167 0 12 (dk_at dksX8_sign_1 10 rfl rfl)
theorem dX8_sign_37 : decode cX8_sign 37 = .ok (.aload_n 0, 1) := dk_42 (dk_at dksX8_sign_1 13 rfl rfl)
theorem dX8_sign_38 : decode cX8_sign 38 = .ok (.iconst 1, 1) := dk_4 (dk_at dksX8_sign_1 14 rfl rfl)
theorem dX8_sign_39 : decode cX8_sign 39 = .ok (.aload_n 0, 1) := dk_42 (dk_at dksX8_sign_1 15 rfl rfl)
theorem dX8_sign_40 : decode cX8_sign 40 = .ok (.getfield 115, 3) := dk_180 0 115 (dk_at dksX8_sign_1 16 rfl rfl)
theorem dX8_sign_43 : decode cX8_sign 43 = .ok (.invokevirtual 135, 3) := dk_182 0 135 (dk_at dksX8_sign_1 19 rfl rfl)
theorem dX8_sign_46 : decode cX8_sign 46 = .ok (.return_, 1) := dk_177 (dk_at dksX8_sign_1 22 rfl rfl)
abbrev cX8_ends : ByteArray := prog_30_method_24_code
def yX8_ends : MethodName := ⟨RX8, "ends", "()I"⟩
def dkwX8_ends_0 : List UInt8 := [42, 42, 180, 0, 125, 181, 0, 9, 42, 180, 0, 122, 16, 10, 100, 172]
abbrev dktX8_ends_0 : List UInt8 := dkwX8_ends_0 ++ []
theorem dksX8_ends_0 : cX8_ends.data.toList.drop 0 = dktX8_ends_0 := by decide +kernel
theorem dX8_ends_0 : decode cX8_ends 0 = .ok (.aload_n 0, 1) := dk_42 (dk_at dksX8_ends_0 0 rfl rfl)
theorem dX8_ends_1 : decode cX8_ends 1 = .ok (.aload_n 0, 1) := dk_42 (dk_at dksX8_ends_0 1 rfl rfl)
theorem dX8_ends_2 : decode cX8_ends 2 = .ok (.getfield 125, 3) := dk_180 0 125 (dk_at dksX8_ends_0 2 rfl rfl)
theorem dX8_ends_5 : decode cX8_ends 5 = .ok (.putfield 9, 3) := dk_181 0 9 (dk_at dksX8_ends_0 5 rfl rfl)
theorem dX8_ends_8 : decode cX8_ends 8 = .ok (.aload_n 0, 1) := dk_42 (dk_at dksX8_ends_0 8 rfl rfl)
theorem dX8_ends_9 : decode cX8_ends 9 = .ok (.getfield 122, 3) := dk_180 0 122 (dk_at dksX8_ends_0 9 rfl rfl)
theorem dX8_ends_12 : decode cX8_ends 12 = .ok (.bipush 10, 2) := dk_16 10 (dk_at dksX8_ends_0 12 rfl rfl)
theorem dX8_ends_14 : decode cX8_ends 14 = .ok (.isub, 1) := dk_100 (dk_at dksX8_ends_0 14 rfl rfl)
theorem dX8_ends_15 : decode cX8_ends 15 = .ok (.ireturn, 1) := dk_172 (dk_at dksX8_ends_0 15 rfl rfl)
abbrev cX8_law : ByteArray := prog_30_method_40_code
def yX8_law : MethodName := ⟨RX8, "law", "(I)I"⟩
def dkwX8_law_5 : List UInt8 := [180, 0, 52, 42, 180, 0, 206, 184, 0, 202, 4, 172]
abbrev dktX8_law_5 : List UInt8 := dkwX8_law_5 ++ []
def dkwX8_law_4 : List UInt8 := [182, 0, 199, 172, 42, 2, 181, 0, 9, 42, 42, 180, 0, 221, 181, 0, 206, 42, 180, 0, 55, 42]
abbrev dktX8_law_4 : List UInt8 := dkwX8_law_4 ++ dktX8_law_5
def dkwX8_law_3 : List UInt8 := [180, 0, 112, 162, 0, 12, 42, 4, 42, 180, 0, 115, 182, 0, 135, 42, 180, 0, 122, 153, 0, 8, 42]
abbrev dktX8_law_3 : List UInt8 := dkwX8_law_3 ++ dktX8_law_4
def dkwX8_law_2 : List UInt8 := [3, 181, 0, 221, 42, 182, 0, 243, 42, 182, 0, 128, 42, 180, 0, 122, 154, 0, 23, 42, 180, 0, 115, 42]
abbrev dktX8_law_2 : List UInt8 := dkwX8_law_2 ++ dktX8_law_3
def dkwX8_law_1 : List UInt8 := [164, 0, 7, 4, 167, 0, 4, 3, 4, 4, 182, 0, 189, 153, 0, 5, 3, 172, 42, 27, 182, 0, 193, 42]
abbrev dktX8_law_1 : List UInt8 := dkwX8_law_1 ++ dktX8_law_2
def dkwX8_law_0 : List UInt8 := [42, 3, 181, 0, 106, 42, 27, 3, 42, 180, 0, 109, 184, 0, 140, 153, 0, 10, 27, 17, 0, 150]
abbrev dktX8_law_0 : List UInt8 := dkwX8_law_0 ++ dktX8_law_1
theorem dksX8_law_0 : cX8_law.data.toList.drop 0 = dktX8_law_0 := by decide +kernel
theorem dksX8_law_1 : cX8_law.data.toList.drop 22 = dktX8_law_1 := dk_seg dksX8_law_0 22 rfl rfl
theorem dksX8_law_2 : cX8_law.data.toList.drop 46 = dktX8_law_2 := dk_seg dksX8_law_1 24 rfl rfl
theorem dksX8_law_3 : cX8_law.data.toList.drop 70 = dktX8_law_3 := dk_seg dksX8_law_2 24 rfl rfl
theorem dksX8_law_4 : cX8_law.data.toList.drop 93 = dktX8_law_4 := dk_seg dksX8_law_3 23 rfl rfl
theorem dksX8_law_5 : cX8_law.data.toList.drop 115 = dktX8_law_5 := dk_seg dksX8_law_4 22 rfl rfl
theorem dX8_law_0 : decode cX8_law 0 = .ok (.aload_n 0, 1) := dk_42 (dk_at dksX8_law_0 0 rfl rfl)
theorem dX8_law_1 : decode cX8_law 1 = .ok (.iconst 0, 1) := dk_3 (dk_at dksX8_law_0 1 rfl rfl)
theorem dX8_law_2 : decode cX8_law 2 = .ok (.putfield 106, 3) := dk_181 0 106 (dk_at dksX8_law_0 2 rfl rfl)
theorem dX8_law_5 : decode cX8_law 5 = .ok (.aload_n 0, 1) := dk_42 (dk_at dksX8_law_0 5 rfl rfl)
theorem dX8_law_6 : decode cX8_law 6 = .ok (.iload_n 1, 1) := dk_27 (dk_at dksX8_law_0 6 rfl rfl)
theorem dX8_law_7 : decode cX8_law 7 = .ok (.iconst 0, 1) := dk_3 (dk_at dksX8_law_0 7 rfl rfl)
theorem dX8_law_8 : decode cX8_law 8 = .ok (.aload_n 0, 1) := dk_42 (dk_at dksX8_law_0 8 rfl rfl)
theorem dX8_law_9 : decode cX8_law 9 = .ok (.getfield 109, 3) := dk_180 0 109 (dk_at dksX8_law_0 9 rfl rfl)
theorem dX8_law_12 : decode cX8_law 12 = .ok (.invokestatic 140, 3) := dk_184 0 140 (dk_at dksX8_law_0 12 rfl rfl)
theorem dX8_law_15 : decode cX8_law 15 = .ok (.ifCond .eq 10, 3) := dk_153 0 10 (dk_at dksX8_law_0 15 rfl rfl)
theorem dX8_law_18 : decode cX8_law 18 = .ok (.iload_n 1, 1) := dk_27 (dk_at dksX8_law_0 18 rfl rfl)
theorem dX8_law_19 : decode cX8_law 19 = .ok (.sipush 150, 3) := dk_17 0 150 (dk_at dksX8_law_0 19 rfl rfl)
theorem dX8_law_22 : decode cX8_law 22 = .ok (.if_icmp .le 7, 3) := dk_164 0 7 (dk_at dksX8_law_1 0 rfl rfl)
theorem dX8_law_25 : decode cX8_law 25 = .ok (.iconst 1, 1) := dk_4 (dk_at dksX8_law_1 3 rfl rfl)
theorem dX8_law_26 : decode cX8_law 26 = .ok (.goto 4, 3) := dk_167 0 4 (dk_at dksX8_law_1 4 rfl rfl)
theorem dX8_law_29 : decode cX8_law 29 = .ok (.iconst 0, 1) := dk_3 (dk_at dksX8_law_1 7 rfl rfl)
theorem dX8_law_30 : decode cX8_law 30 = .ok (.iconst 1, 1) := dk_4 (dk_at dksX8_law_1 8 rfl rfl)
theorem dX8_law_31 : decode cX8_law 31 = .ok (.iconst 1, 1) := dk_4 (dk_at dksX8_law_1 9 rfl rfl)
theorem dX8_law_32 : decode cX8_law 32 = .ok (.invokevirtual 189, 3) := dk_182 0 189 (dk_at dksX8_law_1 10 rfl rfl)
theorem dX8_law_35 : decode cX8_law 35 = .ok (.ifCond .eq 5, 3) := dk_153 0 5 (dk_at dksX8_law_1 13 rfl rfl)
theorem dX8_law_38 : decode cX8_law 38 = .ok (.iconst 0, 1) := dk_3 (dk_at dksX8_law_1 16 rfl rfl)
theorem dX8_law_39 : decode cX8_law 39 = .ok (.ireturn, 1) := dk_172 (dk_at dksX8_law_1 17 rfl rfl)
theorem dX8_law_40 : decode cX8_law 40 = .ok (.aload_n 0, 1) := dk_42 (dk_at dksX8_law_1 18 rfl rfl)
theorem dX8_law_41 : decode cX8_law 41 = .ok (.iload_n 1, 1) := dk_27 (dk_at dksX8_law_1 19 rfl rfl)
theorem dX8_law_42 : decode cX8_law 42 = .ok (.invokevirtual 193, 3) := dk_182 0 193 (dk_at dksX8_law_1 20 rfl rfl)
theorem dX8_law_45 : decode cX8_law 45 = .ok (.aload_n 0, 1) := dk_42 (dk_at dksX8_law_1 23 rfl rfl)
theorem dX8_law_46 : decode cX8_law 46 = .ok (.iconst 0, 1) := dk_3 (dk_at dksX8_law_2 0 rfl rfl)
theorem dX8_law_47 : decode cX8_law 47 = .ok (.putfield 221, 3) := dk_181 0 221 (dk_at dksX8_law_2 1 rfl rfl)
theorem dX8_law_50 : decode cX8_law 50 = .ok (.aload_n 0, 1) := dk_42 (dk_at dksX8_law_2 4 rfl rfl)
theorem dX8_law_51 : decode cX8_law 51 = .ok (.invokevirtual 243, 3) := dk_182 0 243 (dk_at dksX8_law_2 5 rfl rfl)
theorem dX8_law_54 : decode cX8_law 54 = .ok (.aload_n 0, 1) := dk_42 (dk_at dksX8_law_2 8 rfl rfl)
theorem dX8_law_55 : decode cX8_law 55 = .ok (.invokevirtual 128, 3) := dk_182 0 128 (dk_at dksX8_law_2 9 rfl rfl)
theorem dX8_law_58 : decode cX8_law 58 = .ok (.aload_n 0, 1) := dk_42 (dk_at dksX8_law_2 12 rfl rfl)
theorem dX8_law_59 : decode cX8_law 59 = .ok (.getfield 122, 3) := dk_180 0 122 (dk_at dksX8_law_2 13 rfl rfl)
theorem dX8_law_62 : decode cX8_law 62 = .ok (.ifCond .ne 23, 3) := dk_154 0 23 (dk_at dksX8_law_2 16 rfl rfl)
theorem dX8_law_65 : decode cX8_law 65 = .ok (.aload_n 0, 1) := dk_42 (dk_at dksX8_law_2 19 rfl rfl)
theorem dX8_law_66 : decode cX8_law 66 = .ok (.getfield 115, 3) := dk_180 0 115 (dk_at dksX8_law_2 20 rfl rfl)
theorem dX8_law_69 : decode cX8_law 69 = .ok (.aload_n 0, 1) := dk_42 (dk_at dksX8_law_2 23 rfl rfl)
theorem dX8_law_70 : decode cX8_law 70 = .ok (.getfield 112, 3) := dk_180 0 112 (dk_at dksX8_law_3 0 rfl rfl)
theorem dX8_law_73 : decode cX8_law 73 = .ok (.if_icmp .ge 12, 3) := dk_162 0 12 (dk_at dksX8_law_3 3 rfl rfl)
theorem dX8_law_76 : decode cX8_law 76 = .ok (.aload_n 0, 1) := dk_42 (dk_at dksX8_law_3 6 rfl rfl)
theorem dX8_law_77 : decode cX8_law 77 = .ok (.iconst 1, 1) := dk_4 (dk_at dksX8_law_3 7 rfl rfl)
theorem dX8_law_78 : decode cX8_law 78 = .ok (.aload_n 0, 1) := dk_42 (dk_at dksX8_law_3 8 rfl rfl)
theorem dX8_law_79 : decode cX8_law 79 = .ok (.getfield 115, 3) := dk_180 0 115 (dk_at dksX8_law_3 9 rfl rfl)
theorem dX8_law_82 : decode cX8_law 82 = .ok (.invokevirtual 135, 3) := dk_182 0 135 (dk_at dksX8_law_3 12 rfl rfl)
theorem dX8_law_85 : decode cX8_law 85 = .ok (.aload_n 0, 1) := dk_42 (dk_at dksX8_law_3 15 rfl rfl)
theorem dX8_law_86 : decode cX8_law 86 = .ok (.getfield 122, 3) := dk_180 0 122 (dk_at dksX8_law_3 16 rfl rfl)
theorem dX8_law_89 : decode cX8_law 89 = .ok (.ifCond .eq 8, 3) := dk_153 0 8 (dk_at dksX8_law_3 19 rfl rfl)
theorem dX8_law_92 : decode cX8_law 92 = .ok (.aload_n 0, 1) := dk_42 (dk_at dksX8_law_3 22 rfl rfl)
theorem dX8_law_93 : decode cX8_law 93 = .ok (.invokevirtual 199, 3) := dk_182 0 199 (dk_at dksX8_law_4 0 rfl rfl)
theorem dX8_law_96 : decode cX8_law 96 = .ok (.ireturn, 1) := dk_172 (dk_at dksX8_law_4 3 rfl rfl)
theorem dX8_law_97 : decode cX8_law 97 = .ok (.aload_n 0, 1) := dk_42 (dk_at dksX8_law_4 4 rfl rfl)
theorem dX8_law_98 : decode cX8_law 98 = .ok (.iconst (-1), 1) := dk_2 (dk_at dksX8_law_4 5 rfl rfl)
theorem dX8_law_99 : decode cX8_law 99 = .ok (.putfield 9, 3) := dk_181 0 9 (dk_at dksX8_law_4 6 rfl rfl)
theorem dX8_law_102 : decode cX8_law 102 = .ok (.aload_n 0, 1) := dk_42 (dk_at dksX8_law_4 9 rfl rfl)
theorem dX8_law_103 : decode cX8_law 103 = .ok (.aload_n 0, 1) := dk_42 (dk_at dksX8_law_4 10 rfl rfl)
theorem dX8_law_104 : decode cX8_law 104 = .ok (.getfield 221, 3) := dk_180 0 221 (dk_at dksX8_law_4 11 rfl rfl)
theorem dX8_law_107 : decode cX8_law 107 = .ok (.putfield 206, 3) := dk_181 0 206 (dk_at dksX8_law_4 14 rfl rfl)
theorem dX8_law_110 : decode cX8_law 110 = .ok (.aload_n 0, 1) := dk_42 (dk_at dksX8_law_4 17 rfl rfl)
theorem dX8_law_111 : decode cX8_law 111 = .ok (.getfield 55, 3) := dk_180 0 55 (dk_at dksX8_law_4 18 rfl rfl)
theorem dX8_law_114 : decode cX8_law 114 = .ok (.aload_n 0, 1) := dk_42 (dk_at dksX8_law_4 21 rfl rfl)
theorem dX8_law_115 : decode cX8_law 115 = .ok (.getfield 52, 3) := dk_180 0 52 (dk_at dksX8_law_5 0 rfl rfl)
theorem dX8_law_118 : decode cX8_law 118 = .ok (.aload_n 0, 1) := dk_42 (dk_at dksX8_law_5 3 rfl rfl)
theorem dX8_law_119 : decode cX8_law 119 = .ok (.getfield 206, 3) := dk_180 0 206 (dk_at dksX8_law_5 4 rfl rfl)
theorem dX8_law_122 : decode cX8_law 122 = .ok (.invokestatic 202, 3) := dk_184 0 202 (dk_at dksX8_law_5 7 rfl rfl)
theorem dX8_law_125 : decode cX8_law 125 = .ok (.iconst 1, 1) := dk_4 (dk_at dksX8_law_5 10 rfl rfl)
theorem dX8_law_126 : decode cX8_law 126 = .ok (.ireturn, 1) := dk_172 (dk_at dksX8_law_5 11 rfl rfl)
abbrev cX8_sum : ByteArray := prog_30_method_36_code
def yX8_sum : MethodName := ⟨RX8, "sum", "()V"⟩
def dkwX8_sum_2 : List UInt8 := [182, 0, 224, 42, 27, 3, 182, 0, 230, 167, 255, 205, 177]
abbrev dktX8_sum_2 : List UInt8 := dkwX8_sum_2 ++ []
def dkwX8_sum_1 : List UInt8 := [42, 16, 45, 182, 0, 227, 153, 0, 7, 6, 167, 0, 4, 2, 60, 27, 2, 160, 0, 4, 177, 42]
abbrev dktX8_sum_1 : List UInt8 := dkwX8_sum_1 ++ dktX8_sum_2
def dkwX8_sum_0 : List UInt8 := [42, 182, 0, 224, 42, 180, 0, 122, 154, 0, 50, 42, 16, 43, 182, 0, 227, 153, 0, 7, 5, 167, 0, 17]
abbrev dktX8_sum_0 : List UInt8 := dkwX8_sum_0 ++ dktX8_sum_1
theorem dksX8_sum_0 : cX8_sum.data.toList.drop 0 = dktX8_sum_0 := by decide +kernel
theorem dksX8_sum_1 : cX8_sum.data.toList.drop 24 = dktX8_sum_1 := dk_seg dksX8_sum_0 24 rfl rfl
theorem dksX8_sum_2 : cX8_sum.data.toList.drop 46 = dktX8_sum_2 := dk_seg dksX8_sum_1 22 rfl rfl
theorem dX8_sum_0 : decode cX8_sum 0 = .ok (.aload_n 0, 1) := dk_42 (dk_at dksX8_sum_0 0 rfl rfl)
theorem dX8_sum_1 : decode cX8_sum 1 = .ok (.invokevirtual 224, 3) := dk_182 0 224 (dk_at dksX8_sum_0 1 rfl rfl)
theorem dX8_sum_4 : decode cX8_sum 4 = .ok (.aload_n 0, 1) := dk_42 (dk_at dksX8_sum_0 4 rfl rfl)
theorem dX8_sum_5 : decode cX8_sum 5 = .ok (.getfield 122, 3) := dk_180 0 122 (dk_at dksX8_sum_0 5 rfl rfl)
theorem dX8_sum_8 : decode cX8_sum 8 = .ok (.ifCond .ne 50, 3) := dk_154 0 50 (dk_at dksX8_sum_0 8 rfl rfl)
theorem dX8_sum_11 : decode cX8_sum 11 = .ok (.aload_n 0, 1) := dk_42 (dk_at dksX8_sum_0 11 rfl rfl)
theorem dX8_sum_12 : decode cX8_sum 12 = .ok (.bipush 43, 2) := dk_16 43 (dk_at dksX8_sum_0 12 rfl rfl)
theorem dX8_sum_14 : decode cX8_sum 14 = .ok (.invokevirtual 227, 3) := dk_182 0 227 (dk_at dksX8_sum_0 14 rfl rfl)
theorem dX8_sum_17 : decode cX8_sum 17 = .ok (.ifCond .eq 7, 3) := dk_153 0 7 (dk_at dksX8_sum_0 17 rfl rfl)
theorem dX8_sum_20 : decode cX8_sum 20 = .ok (.iconst 2, 1) := dk_5 (dk_at dksX8_sum_0 20 rfl rfl)
theorem dX8_sum_21 : decode cX8_sum 21 = .ok (.goto 17, 3) := dk_167 0 17 (dk_at dksX8_sum_0 21 rfl rfl)
theorem dX8_sum_24 : decode cX8_sum 24 = .ok (.aload_n 0, 1) := dk_42 (dk_at dksX8_sum_1 0 rfl rfl)
theorem dX8_sum_25 : decode cX8_sum 25 = .ok (.bipush 45, 2) := dk_16 45 (dk_at dksX8_sum_1 1 rfl rfl)
theorem dX8_sum_27 : decode cX8_sum 27 = .ok (.invokevirtual 227, 3) := dk_182 0 227 (dk_at dksX8_sum_1 3 rfl rfl)
theorem dX8_sum_30 : decode cX8_sum 30 = .ok (.ifCond .eq 7, 3) := dk_153 0 7 (dk_at dksX8_sum_1 6 rfl rfl)
theorem dX8_sum_33 : decode cX8_sum 33 = .ok (.iconst 3, 1) := dk_6 (dk_at dksX8_sum_1 9 rfl rfl)
theorem dX8_sum_34 : decode cX8_sum 34 = .ok (.goto 4, 3) := dk_167 0 4 (dk_at dksX8_sum_1 10 rfl rfl)
theorem dX8_sum_37 : decode cX8_sum 37 = .ok (.iconst (-1), 1) := dk_2 (dk_at dksX8_sum_1 13 rfl rfl)
theorem dX8_sum_38 : decode cX8_sum 38 = .ok (.istore_n 1, 1) := dk_60 (dk_at dksX8_sum_1 14 rfl rfl)
theorem dX8_sum_39 : decode cX8_sum 39 = .ok (.iload_n 1, 1) := dk_27 (dk_at dksX8_sum_1 15 rfl rfl)
theorem dX8_sum_40 : decode cX8_sum 40 = .ok (.iconst (-1), 1) := dk_2 (dk_at dksX8_sum_1 16 rfl rfl)
theorem dX8_sum_41 : decode cX8_sum 41 = .ok (.if_icmp .ne 4, 3) := dk_160 0 4 (dk_at dksX8_sum_1 17 rfl rfl)
theorem dX8_sum_44 : decode cX8_sum 44 = .ok (.return_, 1) := dk_177 (dk_at dksX8_sum_1 20 rfl rfl)
theorem dX8_sum_45 : decode cX8_sum 45 = .ok (.aload_n 0, 1) := dk_42 (dk_at dksX8_sum_1 21 rfl rfl)
theorem dX8_sum_46 : decode cX8_sum 46 = .ok (.invokevirtual 224, 3) := dk_182 0 224 (dk_at dksX8_sum_2 0 rfl rfl)
theorem dX8_sum_49 : decode cX8_sum 49 = .ok (.aload_n 0, 1) := dk_42 (dk_at dksX8_sum_2 3 rfl rfl)
theorem dX8_sum_50 : decode cX8_sum 50 = .ok (.iload_n 1, 1) := dk_27 (dk_at dksX8_sum_2 4 rfl rfl)
theorem dX8_sum_51 : decode cX8_sum 51 = .ok (.iconst 0, 1) := dk_3 (dk_at dksX8_sum_2 5 rfl rfl)
theorem dX8_sum_52 : decode cX8_sum 52 = .ok (.invokevirtual 230, 3) := dk_182 0 230 (dk_at dksX8_sum_2 6 rfl rfl)
theorem dX8_sum_55 : decode cX8_sum 55 = .ok (.goto (-51), 3) := dk_167 255 205 (dk_at dksX8_sum_2 9 rfl rfl)
theorem dX8_sum_58 : decode cX8_sum 58 = .ok (.return_, 1) := dk_177 (dk_at dksX8_sum_2 12 rfl rfl)
abbrev cX8_product : ByteArray := prog_30_method_37_code
def yX8_product : MethodName := ⟨RX8, "product", "()V"⟩
def dkwX8_product_3 : List UInt8 := [177]
abbrev dktX8_product_3 : List UInt8 := dkwX8_product_3 ++ []
def dkwX8_product_2 : List UInt8 := [167, 0, 4, 2, 60, 27, 2, 160, 0, 4, 177, 42, 182, 0, 233, 42, 27, 3, 182, 0, 230, 167, 255, 191]
abbrev dktX8_product_2 : List UInt8 := dkwX8_product_2 ++ dktX8_product_3
def dkwX8_product_1 : List UInt8 := [42, 16, 47, 182, 0, 227, 153, 0, 7, 8, 167, 0, 18, 42, 16, 37, 182, 0, 227, 153, 0, 8, 16, 6]
abbrev dktX8_product_1 : List UInt8 := dkwX8_product_1 ++ dktX8_product_2
def dkwX8_product_0 : List UInt8 := [42, 182, 0, 233, 42, 180, 0, 122, 154, 0, 64, 42, 16, 42, 182, 0, 227, 153, 0, 7, 7, 167, 0, 31]
abbrev dktX8_product_0 : List UInt8 := dkwX8_product_0 ++ dktX8_product_1
theorem dksX8_product_0 : cX8_product.data.toList.drop 0 = dktX8_product_0 := by decide +kernel
theorem dksX8_product_1 : cX8_product.data.toList.drop 24 = dktX8_product_1 := dk_seg dksX8_product_0 24 rfl rfl
theorem dksX8_product_2 : cX8_product.data.toList.drop 48 = dktX8_product_2 := dk_seg dksX8_product_1 24 rfl rfl
theorem dksX8_product_3 : cX8_product.data.toList.drop 72 = dktX8_product_3 := dk_seg dksX8_product_2 24 rfl rfl
theorem dX8_product_0 : decode cX8_product 0 = .ok (.aload_n 0, 1) := dk_42 (dk_at dksX8_product_0 0 rfl rfl)
theorem dX8_product_1 : decode cX8_product 1 = .ok (.invokevirtual 233, 3) := dk_182 0 233 (dk_at dksX8_product_0 1 rfl rfl)
theorem dX8_product_4 : decode cX8_product 4 = .ok (.aload_n 0, 1) := dk_42 (dk_at dksX8_product_0 4 rfl rfl)
theorem dX8_product_5 : decode cX8_product 5 = .ok (.getfield 122, 3) := dk_180 0 122 (dk_at dksX8_product_0 5 rfl rfl)
theorem dX8_product_8 : decode cX8_product 8 = .ok (.ifCond .ne 64, 3) := dk_154 0 64 (dk_at dksX8_product_0 8 rfl rfl)
theorem dX8_product_11 : decode cX8_product 11 = .ok (.aload_n 0, 1) := dk_42 (dk_at dksX8_product_0 11 rfl rfl)
theorem dX8_product_12 : decode cX8_product 12 = .ok (.bipush 42, 2) := dk_16 42 (dk_at dksX8_product_0 12 rfl rfl)
theorem dX8_product_14 : decode cX8_product 14 = .ok (.invokevirtual 227, 3) := dk_182 0 227 (dk_at dksX8_product_0 14 rfl rfl)
theorem dX8_product_17 : decode cX8_product 17 = .ok (.ifCond .eq 7, 3) := dk_153 0 7 (dk_at dksX8_product_0 17 rfl rfl)
theorem dX8_product_20 : decode cX8_product 20 = .ok (.iconst 4, 1) := dk_7 (dk_at dksX8_product_0 20 rfl rfl)
theorem dX8_product_21 : decode cX8_product 21 = .ok (.goto 31, 3) := dk_167 0 31 (dk_at dksX8_product_0 21 rfl rfl)
theorem dX8_product_24 : decode cX8_product 24 = .ok (.aload_n 0, 1) := dk_42 (dk_at dksX8_product_1 0 rfl rfl)
theorem dX8_product_25 : decode cX8_product 25 = .ok (.bipush 47, 2) := dk_16 47 (dk_at dksX8_product_1 1 rfl rfl)
theorem dX8_product_27 : decode cX8_product 27 = .ok (.invokevirtual 227, 3) := dk_182 0 227 (dk_at dksX8_product_1 3 rfl rfl)
theorem dX8_product_30 : decode cX8_product 30 = .ok (.ifCond .eq 7, 3) := dk_153 0 7 (dk_at dksX8_product_1 6 rfl rfl)
theorem dX8_product_33 : decode cX8_product 33 = .ok (.iconst 5, 1) := dk_8 (dk_at dksX8_product_1 9 rfl rfl)
theorem dX8_product_34 : decode cX8_product 34 = .ok (.goto 18, 3) := dk_167 0 18 (dk_at dksX8_product_1 10 rfl rfl)
theorem dX8_product_37 : decode cX8_product 37 = .ok (.aload_n 0, 1) := dk_42 (dk_at dksX8_product_1 13 rfl rfl)
theorem dX8_product_38 : decode cX8_product 38 = .ok (.bipush 37, 2) := dk_16 37 (dk_at dksX8_product_1 14 rfl rfl)
theorem dX8_product_40 : decode cX8_product 40 = .ok (.invokevirtual 227, 3) := dk_182 0 227 (dk_at dksX8_product_1 16 rfl rfl)
theorem dX8_product_43 : decode cX8_product 43 = .ok (.ifCond .eq 8, 3) := dk_153 0 8 (dk_at dksX8_product_1 19 rfl rfl)
theorem dX8_product_46 : decode cX8_product 46 = .ok (.bipush 6, 2) := dk_16 6 (dk_at dksX8_product_1 22 rfl rfl)
theorem dX8_product_48 : decode cX8_product 48 = .ok (.goto 4, 3) := dk_167 0 4 (dk_at dksX8_product_2 0 rfl rfl)
theorem dX8_product_51 : decode cX8_product 51 = .ok (.iconst (-1), 1) := dk_2 (dk_at dksX8_product_2 3 rfl rfl)
theorem dX8_product_52 : decode cX8_product 52 = .ok (.istore_n 1, 1) := dk_60 (dk_at dksX8_product_2 4 rfl rfl)
theorem dX8_product_53 : decode cX8_product 53 = .ok (.iload_n 1, 1) := dk_27 (dk_at dksX8_product_2 5 rfl rfl)
theorem dX8_product_54 : decode cX8_product 54 = .ok (.iconst (-1), 1) := dk_2 (dk_at dksX8_product_2 6 rfl rfl)
theorem dX8_product_55 : decode cX8_product 55 = .ok (.if_icmp .ne 4, 3) := dk_160 0 4 (dk_at dksX8_product_2 7 rfl rfl)
theorem dX8_product_58 : decode cX8_product 58 = .ok (.return_, 1) := dk_177 (dk_at dksX8_product_2 10 rfl rfl)
theorem dX8_product_59 : decode cX8_product 59 = .ok (.aload_n 0, 1) := dk_42 (dk_at dksX8_product_2 11 rfl rfl)
theorem dX8_product_60 : decode cX8_product 60 = .ok (.invokevirtual 233, 3) := dk_182 0 233 (dk_at dksX8_product_2 12 rfl rfl)
theorem dX8_product_63 : decode cX8_product 63 = .ok (.aload_n 0, 1) := dk_42 (dk_at dksX8_product_2 15 rfl rfl)
theorem dX8_product_64 : decode cX8_product 64 = .ok (.iload_n 1, 1) := dk_27 (dk_at dksX8_product_2 16 rfl rfl)
theorem dX8_product_65 : decode cX8_product 65 = .ok (.iconst 0, 1) := dk_3 (dk_at dksX8_product_2 17 rfl rfl)
theorem dX8_product_66 : decode cX8_product 66 = .ok (.invokevirtual 230, 3) := dk_182 0 230 (dk_at dksX8_product_2 18 rfl rfl)
theorem dX8_product_69 : decode cX8_product 69 = .ok (.goto (-65), 3) := dk_167 255 191 (dk_at dksX8_product_2 21 rfl rfl)
theorem dX8_product_72 : decode cX8_product 72 = .ok (.return_, 1) := dk_177 (dk_at dksX8_product_3 0 rfl rfl)
abbrev cX8_one : ByteArray := prog_30_method_39_code
def yX8_one : MethodName := ⟨RX8, "one", "()V"⟩
def dkwX8_one_8 : List UInt8 := [182, 0, 230, 167, 0, 16, 42, 3, 42, 3, 17, 3, 231, 182, 0, 168, 182, 0, 230, 177]
abbrev dktX8_one_8 : List UInt8 := dkwX8_one_8 ++ []
def dkwX8_one_7 : List UInt8 := [180, 0, 165, 4, 100, 181, 0, 165, 177, 42, 182, 0, 246, 61, 28, 2, 159, 0, 12, 42, 4, 28]
abbrev dktX8_one_7 : List UInt8 := dkwX8_one_7 ++ dktX8_one_8
def dkwX8_one_6 : List UInt8 := [177, 42, 89, 180, 0, 115, 4, 96, 181, 0, 115, 42, 182, 0, 243, 42, 16, 41, 182, 0, 185, 42, 89]
abbrev dktX8_one_6 : List UInt8 := dkwX8_one_6 ++ dktX8_one_7
def dkwX8_one_5 : List UInt8 := [181, 0, 165, 177, 42, 42, 180, 0, 115, 182, 0, 118, 16, 40, 160, 0, 42, 42, 182, 0, 239, 154, 0, 4]
abbrev dktX8_one_5 : List UInt8 := dkwX8_one_5 ++ dktX8_one_6
def dkwX8_one_4 : List UInt8 := [42, 182, 0, 243, 42, 16, 93, 182, 0, 185, 42, 27, 3, 182, 0, 230, 42, 89, 180, 0, 165, 4, 100]
abbrev dktX8_one_4 : List UInt8 := dkwX8_one_4 ++ dktX8_one_5
def dkwX8_one_3 : List UInt8 := [154, 0, 4, 177, 42, 182, 0, 159, 42, 16, 91, 182, 0, 185, 42, 182, 0, 243, 42, 16, 44, 182, 0, 185]
abbrev dktX8_one_3 : List UInt8 := dkwX8_one_3 ++ dktX8_one_4
def dkwX8_one_2 : List UInt8 := [182, 0, 155, 153, 0, 8, 16, 8, 167, 0, 4, 2, 60, 27, 2, 159, 0, 58, 42, 182, 0, 239]
abbrev dktX8_one_2 : List UInt8 := dkwX8_one_2 ++ dktX8_one_3
def dkwX8_one_1 : List UInt8 := [182, 0, 155, 153, 0, 8, 16, 7, 167, 0, 26, 42, 16, 13, 16, 15, 16, 19, 16, 20, 3, 3]
abbrev dktX8_one_1 : List UInt8 := dkwX8_one_1 ++ dktX8_one_2
def dkwX8_one_0 : List UInt8 := [42, 180, 0, 122, 153, 0, 4, 177, 42, 182, 0, 128, 42, 16, 12, 8, 4, 16, 19, 16, 20, 3]
abbrev dktX8_one_0 : List UInt8 := dkwX8_one_0 ++ dktX8_one_1
theorem dksX8_one_0 : cX8_one.data.toList.drop 0 = dktX8_one_0 := by decide +kernel
theorem dksX8_one_1 : cX8_one.data.toList.drop 22 = dktX8_one_1 := dk_seg dksX8_one_0 22 rfl rfl
theorem dksX8_one_2 : cX8_one.data.toList.drop 44 = dktX8_one_2 := dk_seg dksX8_one_1 22 rfl rfl
theorem dksX8_one_3 : cX8_one.data.toList.drop 66 = dktX8_one_3 := dk_seg dksX8_one_2 22 rfl rfl
theorem dksX8_one_4 : cX8_one.data.toList.drop 90 = dktX8_one_4 := dk_seg dksX8_one_3 24 rfl rfl
theorem dksX8_one_5 : cX8_one.data.toList.drop 113 = dktX8_one_5 := dk_seg dksX8_one_4 23 rfl rfl
theorem dksX8_one_6 : cX8_one.data.toList.drop 137 = dktX8_one_6 := dk_seg dksX8_one_5 24 rfl rfl
theorem dksX8_one_7 : cX8_one.data.toList.drop 160 = dktX8_one_7 := dk_seg dksX8_one_6 23 rfl rfl
theorem dksX8_one_8 : cX8_one.data.toList.drop 182 = dktX8_one_8 := dk_seg dksX8_one_7 22 rfl rfl
theorem dX8_one_0 : decode cX8_one 0 = .ok (.aload_n 0, 1) := dk_42 (dk_at dksX8_one_0 0 rfl rfl)
theorem dX8_one_1 : decode cX8_one 1 = .ok (.getfield 122, 3) := dk_180 0 122 (dk_at dksX8_one_0 1 rfl rfl)
theorem dX8_one_4 : decode cX8_one 4 = .ok (.ifCond .eq 4, 3) := dk_153 0 4 (dk_at dksX8_one_0 4 rfl rfl)
theorem dX8_one_7 : decode cX8_one 7 = .ok (.return_, 1) := dk_177 (dk_at dksX8_one_0 7 rfl rfl)
theorem dX8_one_8 : decode cX8_one 8 = .ok (.aload_n 0, 1) := dk_42 (dk_at dksX8_one_0 8 rfl rfl)
theorem dX8_one_9 : decode cX8_one 9 = .ok (.invokevirtual 128, 3) := dk_182 0 128 (dk_at dksX8_one_0 9 rfl rfl)
theorem dX8_one_12 : decode cX8_one 12 = .ok (.aload_n 0, 1) := dk_42 (dk_at dksX8_one_0 12 rfl rfl)
theorem dX8_one_13 : decode cX8_one 13 = .ok (.bipush 12, 2) := dk_16 12 (dk_at dksX8_one_0 13 rfl rfl)
theorem dX8_one_15 : decode cX8_one 15 = .ok (.iconst 5, 1) := dk_8 (dk_at dksX8_one_0 15 rfl rfl)
theorem dX8_one_16 : decode cX8_one 16 = .ok (.iconst 1, 1) := dk_4 (dk_at dksX8_one_0 16 rfl rfl)
theorem dX8_one_17 : decode cX8_one 17 = .ok (.bipush 19, 2) := dk_16 19 (dk_at dksX8_one_0 17 rfl rfl)
theorem dX8_one_19 : decode cX8_one 19 = .ok (.bipush 20, 2) := dk_16 20 (dk_at dksX8_one_0 19 rfl rfl)
theorem dX8_one_21 : decode cX8_one 21 = .ok (.iconst 0, 1) := dk_3 (dk_at dksX8_one_0 21 rfl rfl)
theorem dX8_one_22 : decode cX8_one 22 = .ok (.invokevirtual 155, 3) := dk_182 0 155 (dk_at dksX8_one_1 0 rfl rfl)
theorem dX8_one_25 : decode cX8_one 25 = .ok (.ifCond .eq 8, 3) := dk_153 0 8 (dk_at dksX8_one_1 3 rfl rfl)
theorem dX8_one_28 : decode cX8_one 28 = .ok (.bipush 7, 2) := dk_16 7 (dk_at dksX8_one_1 6 rfl rfl)
theorem dX8_one_30 : decode cX8_one 30 = .ok (.goto 26, 3) := dk_167 0 26 (dk_at dksX8_one_1 8 rfl rfl)
theorem dX8_one_33 : decode cX8_one 33 = .ok (.aload_n 0, 1) := dk_42 (dk_at dksX8_one_1 11 rfl rfl)
theorem dX8_one_34 : decode cX8_one 34 = .ok (.bipush 13, 2) := dk_16 13 (dk_at dksX8_one_1 12 rfl rfl)
theorem dX8_one_36 : decode cX8_one 36 = .ok (.bipush 15, 2) := dk_16 15 (dk_at dksX8_one_1 14 rfl rfl)
theorem dX8_one_38 : decode cX8_one 38 = .ok (.bipush 19, 2) := dk_16 19 (dk_at dksX8_one_1 16 rfl rfl)
theorem dX8_one_40 : decode cX8_one 40 = .ok (.bipush 20, 2) := dk_16 20 (dk_at dksX8_one_1 18 rfl rfl)
theorem dX8_one_42 : decode cX8_one 42 = .ok (.iconst 0, 1) := dk_3 (dk_at dksX8_one_1 20 rfl rfl)
theorem dX8_one_43 : decode cX8_one 43 = .ok (.iconst 0, 1) := dk_3 (dk_at dksX8_one_1 21 rfl rfl)
theorem dX8_one_44 : decode cX8_one 44 = .ok (.invokevirtual 155, 3) := dk_182 0 155 (dk_at dksX8_one_2 0 rfl rfl)
theorem dX8_one_47 : decode cX8_one 47 = .ok (.ifCond .eq 8, 3) := dk_153 0 8 (dk_at dksX8_one_2 3 rfl rfl)
theorem dX8_one_50 : decode cX8_one 50 = .ok (.bipush 8, 2) := dk_16 8 (dk_at dksX8_one_2 6 rfl rfl)
theorem dX8_one_52 : decode cX8_one 52 = .ok (.goto 4, 3) := dk_167 0 4 (dk_at dksX8_one_2 8 rfl rfl)
theorem dX8_one_55 : decode cX8_one 55 = .ok (.iconst (-1), 1) := dk_2 (dk_at dksX8_one_2 11 rfl rfl)
theorem dX8_one_56 : decode cX8_one 56 = .ok (.istore_n 1, 1) := dk_60 (dk_at dksX8_one_2 12 rfl rfl)
theorem dX8_one_57 : decode cX8_one 57 = .ok (.iload_n 1, 1) := dk_27 (dk_at dksX8_one_2 13 rfl rfl)
theorem dX8_one_58 : decode cX8_one 58 = .ok (.iconst (-1), 1) := dk_2 (dk_at dksX8_one_2 14 rfl rfl)
theorem dX8_one_59 : decode cX8_one 59 = .ok (.if_icmp .eq 58, 3) := dk_159 0 58 (dk_at dksX8_one_2 15 rfl rfl)
theorem dX8_one_62 : decode cX8_one 62 = .ok (.aload_n 0, 1) := dk_42 (dk_at dksX8_one_2 18 rfl rfl)
theorem dX8_one_63 : decode cX8_one 63 = .ok (.invokevirtual 239, 3) := dk_182 0 239 (dk_at dksX8_one_2 19 rfl rfl)
theorem dX8_one_66 : decode cX8_one 66 = .ok (.ifCond .ne 4, 3) := dk_154 0 4 (dk_at dksX8_one_3 0 rfl rfl)
theorem dX8_one_69 : decode cX8_one 69 = .ok (.return_, 1) := dk_177 (dk_at dksX8_one_3 3 rfl rfl)
theorem dX8_one_70 : decode cX8_one 70 = .ok (.aload_n 0, 1) := dk_42 (dk_at dksX8_one_3 4 rfl rfl)
theorem dX8_one_71 : decode cX8_one 71 = .ok (.invokevirtual 159, 3) := dk_182 0 159 (dk_at dksX8_one_3 5 rfl rfl)
theorem dX8_one_74 : decode cX8_one 74 = .ok (.aload_n 0, 1) := dk_42 (dk_at dksX8_one_3 8 rfl rfl)
theorem dX8_one_75 : decode cX8_one 75 = .ok (.bipush 91, 2) := dk_16 91 (dk_at dksX8_one_3 9 rfl rfl)
theorem dX8_one_77 : decode cX8_one 77 = .ok (.invokevirtual 185, 3) := dk_182 0 185 (dk_at dksX8_one_3 11 rfl rfl)
theorem dX8_one_80 : decode cX8_one 80 = .ok (.aload_n 0, 1) := dk_42 (dk_at dksX8_one_3 14 rfl rfl)
theorem dX8_one_81 : decode cX8_one 81 = .ok (.invokevirtual 243, 3) := dk_182 0 243 (dk_at dksX8_one_3 15 rfl rfl)
theorem dX8_one_84 : decode cX8_one 84 = .ok (.aload_n 0, 1) := dk_42 (dk_at dksX8_one_3 18 rfl rfl)
theorem dX8_one_85 : decode cX8_one 85 = .ok (.bipush 44, 2) := dk_16 44 (dk_at dksX8_one_3 19 rfl rfl)
theorem dX8_one_87 : decode cX8_one 87 = .ok (.invokevirtual 185, 3) := dk_182 0 185 (dk_at dksX8_one_3 21 rfl rfl)
theorem dX8_one_90 : decode cX8_one 90 = .ok (.aload_n 0, 1) := dk_42 (dk_at dksX8_one_4 0 rfl rfl)
theorem dX8_one_91 : decode cX8_one 91 = .ok (.invokevirtual 243, 3) := dk_182 0 243 (dk_at dksX8_one_4 1 rfl rfl)
theorem dX8_one_94 : decode cX8_one 94 = .ok (.aload_n 0, 1) := dk_42 (dk_at dksX8_one_4 4 rfl rfl)
theorem dX8_one_95 : decode cX8_one 95 = .ok (.bipush 93, 2) := dk_16 93 (dk_at dksX8_one_4 5 rfl rfl)
theorem dX8_one_97 : decode cX8_one 97 = .ok (.invokevirtual 185, 3) := dk_182 0 185 (dk_at dksX8_one_4 7 rfl rfl)
theorem dX8_one_100 : decode cX8_one 100 = .ok (.aload_n 0, 1) := dk_42 (dk_at dksX8_one_4 10 rfl rfl)
theorem dX8_one_101 : decode cX8_one 101 = .ok (.iload_n 1, 1) := dk_27 (dk_at dksX8_one_4 11 rfl rfl)
theorem dX8_one_102 : decode cX8_one 102 = .ok (.iconst 0, 1) := dk_3 (dk_at dksX8_one_4 12 rfl rfl)
theorem dX8_one_103 : decode cX8_one 103 = .ok (.invokevirtual 230, 3) := dk_182 0 230 (dk_at dksX8_one_4 13 rfl rfl)
theorem dX8_one_106 : decode cX8_one 106 = .ok (.aload_n 0, 1) := dk_42 (dk_at dksX8_one_4 16 rfl rfl)
theorem dX8_one_107 : decode cX8_one 107 = .ok (.dup, 1) := dk_89 (dk_at dksX8_one_4 17 rfl rfl)
theorem dX8_one_108 : decode cX8_one 108 = .ok (.getfield 165, 3) := dk_180 0 165 (dk_at dksX8_one_4 18 rfl rfl)
theorem dX8_one_111 : decode cX8_one 111 = .ok (.iconst 1, 1) := dk_4 (dk_at dksX8_one_4 21 rfl rfl)
theorem dX8_one_112 : decode cX8_one 112 = .ok (.isub, 1) := dk_100 (dk_at dksX8_one_4 22 rfl rfl)
theorem dX8_one_113 : decode cX8_one 113 = .ok (.putfield 165, 3) := dk_181 0 165 (dk_at dksX8_one_5 0 rfl rfl)
theorem dX8_one_116 : decode cX8_one 116 = .ok (.return_, 1) := dk_177 (dk_at dksX8_one_5 3 rfl rfl)
theorem dX8_one_117 : decode cX8_one 117 = .ok (.aload_n 0, 1) := dk_42 (dk_at dksX8_one_5 4 rfl rfl)
theorem dX8_one_118 : decode cX8_one 118 = .ok (.aload_n 0, 1) := dk_42 (dk_at dksX8_one_5 5 rfl rfl)
theorem dX8_one_119 : decode cX8_one 119 = .ok (.getfield 115, 3) := dk_180 0 115 (dk_at dksX8_one_5 6 rfl rfl)
theorem dX8_one_122 : decode cX8_one 122 = .ok (.invokevirtual 118, 3) := dk_182 0 118 (dk_at dksX8_one_5 9 rfl rfl)
theorem dX8_one_125 : decode cX8_one 125 = .ok (.bipush 40, 2) := dk_16 40 (dk_at dksX8_one_5 12 rfl rfl)
theorem dX8_one_127 : decode cX8_one 127 = .ok (.if_icmp .ne 42, 3) := dk_160 0 42 (dk_at dksX8_one_5 14 rfl rfl)
theorem dX8_one_130 : decode cX8_one 130 = .ok (.aload_n 0, 1) := dk_42 (dk_at dksX8_one_5 17 rfl rfl)
theorem dX8_one_131 : decode cX8_one 131 = .ok (.invokevirtual 239, 3) := dk_182 0 239 (dk_at dksX8_one_5 18 rfl rfl)
theorem dX8_one_134 : decode cX8_one 134 = .ok (.ifCond .ne 4, 3) := dk_154 0 4 (dk_at dksX8_one_5 21 rfl rfl)
theorem dX8_one_137 : decode cX8_one 137 = .ok (.return_, 1) := dk_177 (dk_at dksX8_one_6 0 rfl rfl)
theorem dX8_one_138 : decode cX8_one 138 = .ok (.aload_n 0, 1) := dk_42 (dk_at dksX8_one_6 1 rfl rfl)
theorem dX8_one_139 : decode cX8_one 139 = .ok (.dup, 1) := dk_89 (dk_at dksX8_one_6 2 rfl rfl)
theorem dX8_one_140 : decode cX8_one 140 = .ok (.getfield 115, 3) := dk_180 0 115 (dk_at dksX8_one_6 3 rfl rfl)
theorem dX8_one_143 : decode cX8_one 143 = .ok (.iconst 1, 1) := dk_4 (dk_at dksX8_one_6 6 rfl rfl)
theorem dX8_one_144 : decode cX8_one 144 = .ok (.iadd, 1) := dk_96 (dk_at dksX8_one_6 7 rfl rfl)
theorem dX8_one_145 : decode cX8_one 145 = .ok (.putfield 115, 3) := dk_181 0 115 (dk_at dksX8_one_6 8 rfl rfl)
theorem dX8_one_148 : decode cX8_one 148 = .ok (.aload_n 0, 1) := dk_42 (dk_at dksX8_one_6 11 rfl rfl)
theorem dX8_one_149 : decode cX8_one 149 = .ok (.invokevirtual 243, 3) := dk_182 0 243 (dk_at dksX8_one_6 12 rfl rfl)
theorem dX8_one_152 : decode cX8_one 152 = .ok (.aload_n 0, 1) := dk_42 (dk_at dksX8_one_6 15 rfl rfl)
theorem dX8_one_153 : decode cX8_one 153 = .ok (.bipush 41, 2) := dk_16 41 (dk_at dksX8_one_6 16 rfl rfl)
theorem dX8_one_155 : decode cX8_one 155 = .ok (.invokevirtual 185, 3) := dk_182 0 185 (dk_at dksX8_one_6 18 rfl rfl)
theorem dX8_one_158 : decode cX8_one 158 = .ok (.aload_n 0, 1) := dk_42 (dk_at dksX8_one_6 21 rfl rfl)
theorem dX8_one_159 : decode cX8_one 159 = .ok (.dup, 1) := dk_89 (dk_at dksX8_one_6 22 rfl rfl)
theorem dX8_one_160 : decode cX8_one 160 = .ok (.getfield 165, 3) := dk_180 0 165 (dk_at dksX8_one_7 0 rfl rfl)
theorem dX8_one_163 : decode cX8_one 163 = .ok (.iconst 1, 1) := dk_4 (dk_at dksX8_one_7 3 rfl rfl)
theorem dX8_one_164 : decode cX8_one 164 = .ok (.isub, 1) := dk_100 (dk_at dksX8_one_7 4 rfl rfl)
theorem dX8_one_165 : decode cX8_one 165 = .ok (.putfield 165, 3) := dk_181 0 165 (dk_at dksX8_one_7 5 rfl rfl)
theorem dX8_one_168 : decode cX8_one 168 = .ok (.return_, 1) := dk_177 (dk_at dksX8_one_7 8 rfl rfl)
theorem dX8_one_169 : decode cX8_one 169 = .ok (.aload_n 0, 1) := dk_42 (dk_at dksX8_one_7 9 rfl rfl)
theorem dX8_one_170 : decode cX8_one 170 = .ok (.invokevirtual 246, 3) := dk_182 0 246 (dk_at dksX8_one_7 10 rfl rfl)
theorem dX8_one_173 : decode cX8_one 173 = .ok (.istore_n 2, 1) := dk_61 (dk_at dksX8_one_7 13 rfl rfl)
theorem dX8_one_174 : decode cX8_one 174 = .ok (.iload_n 2, 1) := dk_28 (dk_at dksX8_one_7 14 rfl rfl)
theorem dX8_one_175 : decode cX8_one 175 = .ok (.iconst (-1), 1) := dk_2 (dk_at dksX8_one_7 15 rfl rfl)
theorem dX8_one_176 : decode cX8_one 176 = .ok (.if_icmp .eq 12, 3) := dk_159 0 12 (dk_at dksX8_one_7 16 rfl rfl)
theorem dX8_one_179 : decode cX8_one 179 = .ok (.aload_n 0, 1) := dk_42 (dk_at dksX8_one_7 19 rfl rfl)
theorem dX8_one_180 : decode cX8_one 180 = .ok (.iconst 1, 1) := dk_4 (dk_at dksX8_one_7 20 rfl rfl)
theorem dX8_one_181 : decode cX8_one 181 = .ok (.iload_n 2, 1) := dk_28 (dk_at dksX8_one_7 21 rfl rfl)
theorem dX8_one_182 : decode cX8_one 182 = .ok (.invokevirtual 230, 3) := dk_182 0 230 (dk_at dksX8_one_8 0 rfl rfl)
theorem dX8_one_185 : decode cX8_one 185 = .ok (.goto 16, 3) := dk_167 0 16 (dk_at dksX8_one_8 3 rfl rfl)
theorem dX8_one_188 : decode cX8_one 188 = .ok (.aload_n 0, 1) := dk_42 (dk_at dksX8_one_8 6 rfl rfl)
theorem dX8_one_189 : decode cX8_one 189 = .ok (.iconst 0, 1) := dk_3 (dk_at dksX8_one_8 7 rfl rfl)
theorem dX8_one_190 : decode cX8_one 190 = .ok (.aload_n 0, 1) := dk_42 (dk_at dksX8_one_8 8 rfl rfl)
theorem dX8_one_191 : decode cX8_one 191 = .ok (.iconst 0, 1) := dk_3 (dk_at dksX8_one_8 9 rfl rfl)
theorem dX8_one_192 : decode cX8_one 192 = .ok (.sipush 999, 3) := dk_17 3 231 (dk_at dksX8_one_8 10 rfl rfl)
theorem dX8_one_195 : decode cX8_one 195 = .ok (.invokevirtual 168, 3) := dk_182 0 168 (dk_at dksX8_one_8 13 rfl rfl)
theorem dX8_one_198 : decode cX8_one 198 = .ok (.invokevirtual 230, 3) := dk_182 0 230 (dk_at dksX8_one_8 16 rfl rfl)
theorem dX8_one_201 : decode cX8_one 201 = .ok (.return_, 1) := dk_177 (dk_at dksX8_one_8 19 rfl rfl)
abbrev cX8_opensOne : ByteArray := prog_30_method_35_code
def yX8_opensOne : MethodName := ⟨RX8, "opensOne", "()Z"⟩
def dkwX8_opensOne_2 : List UInt8 := [180, 0, 122, 154, 0, 7, 4, 167, 0, 4, 3, 172]
abbrev dktX8_opensOne_2 : List UInt8 := dkwX8_opensOne_2 ++ []
def dkwX8_opensOne_1 : List UInt8 := [182, 0, 135, 167, 0, 20, 42, 180, 0, 122, 154, 0, 13, 42, 89, 180, 0, 165, 4, 96, 181, 0, 165, 42]
abbrev dktX8_opensOne_1 : List UInt8 := dkwX8_opensOne_1 ++ dktX8_opensOne_2
def dkwX8_opensOne_0 : List UInt8 := [42, 180, 0, 122, 154, 0, 24, 42, 180, 0, 165, 16, 6, 160, 0, 15, 42, 6, 42, 180, 0, 115]
abbrev dktX8_opensOne_0 : List UInt8 := dkwX8_opensOne_0 ++ dktX8_opensOne_1
theorem dksX8_opensOne_0 : cX8_opensOne.data.toList.drop 0 = dktX8_opensOne_0 := by decide +kernel
theorem dksX8_opensOne_1 : cX8_opensOne.data.toList.drop 22 = dktX8_opensOne_1 := dk_seg dksX8_opensOne_0 22 rfl rfl
theorem dksX8_opensOne_2 : cX8_opensOne.data.toList.drop 46 = dktX8_opensOne_2 := dk_seg dksX8_opensOne_1 24 rfl rfl
theorem dX8_opensOne_0 : decode cX8_opensOne 0 = .ok (.aload_n 0, 1) := dk_42 (dk_at dksX8_opensOne_0 0 rfl rfl)
theorem dX8_opensOne_1 : decode cX8_opensOne 1 = .ok (.getfield 122, 3) := dk_180 0 122 (dk_at dksX8_opensOne_0 1 rfl rfl)
theorem dX8_opensOne_4 : decode cX8_opensOne 4 = .ok (.ifCond .ne 24, 3) := dk_154 0 24 (dk_at dksX8_opensOne_0 4 rfl rfl)
theorem dX8_opensOne_7 : decode cX8_opensOne 7 = .ok (.aload_n 0, 1) := dk_42 (dk_at dksX8_opensOne_0 7 rfl rfl)
theorem dX8_opensOne_8 : decode cX8_opensOne 8 = .ok (.getfield 165, 3) := dk_180 0 165 (dk_at dksX8_opensOne_0 8 rfl rfl)
theorem dX8_opensOne_11 : decode cX8_opensOne 11 = .ok (.bipush 6, 2) := dk_16 6 (dk_at dksX8_opensOne_0 11 rfl rfl)
theorem dX8_opensOne_13 : decode cX8_opensOne 13 = .ok (.if_icmp .ne 15, 3) := dk_160 0 15 (dk_at dksX8_opensOne_0 13 rfl rfl)
theorem dX8_opensOne_16 : decode cX8_opensOne 16 = .ok (.aload_n 0, 1) := dk_42 (dk_at dksX8_opensOne_0 16 rfl rfl)
theorem dX8_opensOne_17 : decode cX8_opensOne 17 = .ok (.iconst 3, 1) := dk_6 (dk_at dksX8_opensOne_0 17 rfl rfl)
theorem dX8_opensOne_18 : decode cX8_opensOne 18 = .ok (.aload_n 0, 1) := dk_42 (dk_at dksX8_opensOne_0 18 rfl rfl)
theorem dX8_opensOne_19 : decode cX8_opensOne 19 = .ok (.getfield 115, 3) := dk_180 0 115 (dk_at dksX8_opensOne_0 19 rfl rfl)
theorem dX8_opensOne_22 : decode cX8_opensOne 22 = .ok (.invokevirtual 135, 3) := dk_182 0 135 (dk_at dksX8_opensOne_1 0 rfl rfl)
theorem dX8_opensOne_25 : decode cX8_opensOne 25 = .ok (.goto 20, 3) := dk_167 0 20 (dk_at dksX8_opensOne_1 3 rfl rfl)
theorem dX8_opensOne_28 : decode cX8_opensOne 28 = .ok (.aload_n 0, 1) := dk_42 (dk_at dksX8_opensOne_1 6 rfl rfl)
theorem dX8_opensOne_29 : decode cX8_opensOne 29 = .ok (.getfield 122, 3) := dk_180 0 122 (dk_at dksX8_opensOne_1 7 rfl rfl)
theorem dX8_opensOne_32 : decode cX8_opensOne 32 = .ok (.ifCond .ne 13, 3) := dk_154 0 13 (dk_at dksX8_opensOne_1 10 rfl rfl)
theorem dX8_opensOne_35 : decode cX8_opensOne 35 = .ok (.aload_n 0, 1) := dk_42 (dk_at dksX8_opensOne_1 13 rfl rfl)
theorem dX8_opensOne_36 : decode cX8_opensOne 36 = .ok (.dup, 1) := dk_89 (dk_at dksX8_opensOne_1 14 rfl rfl)
theorem dX8_opensOne_37 : decode cX8_opensOne 37 = .ok (.getfield 165, 3) := dk_180 0 165 (dk_at dksX8_opensOne_1 15 rfl rfl)
theorem dX8_opensOne_40 : decode cX8_opensOne 40 = .ok (.iconst 1, 1) := dk_4 (dk_at dksX8_opensOne_1 18 rfl rfl)
theorem dX8_opensOne_41 : decode cX8_opensOne 41 = .ok (.iadd, 1) := dk_96 (dk_at dksX8_opensOne_1 19 rfl rfl)
theorem dX8_opensOne_42 : decode cX8_opensOne 42 = .ok (.putfield 165, 3) := dk_181 0 165 (dk_at dksX8_opensOne_1 20 rfl rfl)
theorem dX8_opensOne_45 : decode cX8_opensOne 45 = .ok (.aload_n 0, 1) := dk_42 (dk_at dksX8_opensOne_1 23 rfl rfl)
theorem dX8_opensOne_46 : decode cX8_opensOne 46 = .ok (.getfield 122, 3) := dk_180 0 122 (dk_at dksX8_opensOne_2 0 rfl rfl)
theorem dX8_opensOne_49 : decode cX8_opensOne 49 = .ok (.ifCond .ne 7, 3) := dk_154 0 7 (dk_at dksX8_opensOne_2 3 rfl rfl)
theorem dX8_opensOne_52 : decode cX8_opensOne 52 = .ok (.iconst 1, 1) := dk_4 (dk_at dksX8_opensOne_2 6 rfl rfl)
theorem dX8_opensOne_53 : decode cX8_opensOne 53 = .ok (.goto 4, 3) := dk_167 0 4 (dk_at dksX8_opensOne_2 7 rfl rfl)
theorem dX8_opensOne_56 : decode cX8_opensOne 56 = .ok (.iconst 0, 1) := dk_3 (dk_at dksX8_opensOne_2 10 rfl rfl)
theorem dX8_opensOne_57 : decode cX8_opensOne 57 = .ok (.ireturn, 1) := dk_172 (dk_at dksX8_opensOne_2 11 rfl rfl)
abbrev cX8_notes : ByteArray := prog_30_method_34_code
def yX8_notes : MethodName := ⟨RX8, "notes", "(II)V"⟩
def dkwX8_notes_1 : List UInt8 := [42, 180, 0, 221, 50, 4, 28, 79, 42, 89, 180, 0, 221, 4, 96, 181, 0, 221, 177]
abbrev dktX8_notes_1 : List UInt8 := dkwX8_notes_1 ++ []
def dkwX8_notes_0 : List UInt8 := [42, 180, 0, 122, 153, 0, 4, 177, 42, 180, 0, 55, 42, 180, 0, 221, 50, 3, 27, 79, 42, 180, 0, 55]
abbrev dktX8_notes_0 : List UInt8 := dkwX8_notes_0 ++ dktX8_notes_1
theorem dksX8_notes_0 : cX8_notes.data.toList.drop 0 = dktX8_notes_0 := by decide +kernel
theorem dksX8_notes_1 : cX8_notes.data.toList.drop 24 = dktX8_notes_1 := dk_seg dksX8_notes_0 24 rfl rfl
theorem dX8_notes_0 : decode cX8_notes 0 = .ok (.aload_n 0, 1) := dk_42 (dk_at dksX8_notes_0 0 rfl rfl)
theorem dX8_notes_1 : decode cX8_notes 1 = .ok (.getfield 122, 3) := dk_180 0 122 (dk_at dksX8_notes_0 1 rfl rfl)
theorem dX8_notes_4 : decode cX8_notes 4 = .ok (.ifCond .eq 4, 3) := dk_153 0 4 (dk_at dksX8_notes_0 4 rfl rfl)
theorem dX8_notes_7 : decode cX8_notes 7 = .ok (.return_, 1) := dk_177 (dk_at dksX8_notes_0 7 rfl rfl)
theorem dX8_notes_8 : decode cX8_notes 8 = .ok (.aload_n 0, 1) := dk_42 (dk_at dksX8_notes_0 8 rfl rfl)
theorem dX8_notes_9 : decode cX8_notes 9 = .ok (.getfield 55, 3) := dk_180 0 55 (dk_at dksX8_notes_0 9 rfl rfl)
theorem dX8_notes_12 : decode cX8_notes 12 = .ok (.aload_n 0, 1) := dk_42 (dk_at dksX8_notes_0 12 rfl rfl)
theorem dX8_notes_13 : decode cX8_notes 13 = .ok (.getfield 221, 3) := dk_180 0 221 (dk_at dksX8_notes_0 13 rfl rfl)
theorem dX8_notes_16 : decode cX8_notes 16 = .ok (.aaload, 1) := dk_50 (dk_at dksX8_notes_0 16 rfl rfl)
theorem dX8_notes_17 : decode cX8_notes 17 = .ok (.iconst 0, 1) := dk_3 (dk_at dksX8_notes_0 17 rfl rfl)
theorem dX8_notes_18 : decode cX8_notes 18 = .ok (.iload_n 1, 1) := dk_27 (dk_at dksX8_notes_0 18 rfl rfl)
theorem dX8_notes_19 : decode cX8_notes 19 = .ok (.iastore, 1) := dk_79 (dk_at dksX8_notes_0 19 rfl rfl)
theorem dX8_notes_20 : decode cX8_notes 20 = .ok (.aload_n 0, 1) := dk_42 (dk_at dksX8_notes_0 20 rfl rfl)
theorem dX8_notes_21 : decode cX8_notes 21 = .ok (.getfield 55, 3) := dk_180 0 55 (dk_at dksX8_notes_0 21 rfl rfl)
theorem dX8_notes_24 : decode cX8_notes 24 = .ok (.aload_n 0, 1) := dk_42 (dk_at dksX8_notes_1 0 rfl rfl)
theorem dX8_notes_25 : decode cX8_notes 25 = .ok (.getfield 221, 3) := dk_180 0 221 (dk_at dksX8_notes_1 1 rfl rfl)
theorem dX8_notes_28 : decode cX8_notes 28 = .ok (.aaload, 1) := dk_50 (dk_at dksX8_notes_1 4 rfl rfl)
theorem dX8_notes_29 : decode cX8_notes 29 = .ok (.iconst 1, 1) := dk_4 (dk_at dksX8_notes_1 5 rfl rfl)
theorem dX8_notes_30 : decode cX8_notes 30 = .ok (.iload_n 2, 1) := dk_28 (dk_at dksX8_notes_1 6 rfl rfl)
theorem dX8_notes_31 : decode cX8_notes 31 = .ok (.iastore, 1) := dk_79 (dk_at dksX8_notes_1 7 rfl rfl)
theorem dX8_notes_32 : decode cX8_notes 32 = .ok (.aload_n 0, 1) := dk_42 (dk_at dksX8_notes_1 8 rfl rfl)
theorem dX8_notes_33 : decode cX8_notes 33 = .ok (.dup, 1) := dk_89 (dk_at dksX8_notes_1 9 rfl rfl)
theorem dX8_notes_34 : decode cX8_notes 34 = .ok (.getfield 221, 3) := dk_180 0 221 (dk_at dksX8_notes_1 10 rfl rfl)
theorem dX8_notes_37 : decode cX8_notes 37 = .ok (.iconst 1, 1) := dk_4 (dk_at dksX8_notes_1 13 rfl rfl)
theorem dX8_notes_38 : decode cX8_notes 38 = .ok (.iadd, 1) := dk_96 (dk_at dksX8_notes_1 14 rfl rfl)
theorem dX8_notes_39 : decode cX8_notes 39 = .ok (.putfield 221, 3) := dk_181 0 221 (dk_at dksX8_notes_1 15 rfl rfl)
theorem dX8_notes_42 : decode cX8_notes 42 = .ok (.return_, 1) := dk_177 (dk_at dksX8_notes_1 18 rfl rfl)
abbrev cX8_knownHere : ByteArray := prog_30_method_38_code
def yX8_knownHere : MethodName := ⟨RX8, "knownHere", "()I"⟩
def dkwX8_knownHere_6 : List UInt8 := [153, 0, 8, 16, 7, 167, 0, 4, 2, 172]
abbrev dktX8_knownHere_6 : List UInt8 := dkwX8_knownHere_6 ++ []
def dkwX8_knownHere_5 : List UInt8 := [8, 3, 182, 0, 236, 153, 0, 6, 16, 6, 172, 42, 7, 4, 16, 25, 3, 3, 3, 182, 0, 236]
abbrev dktX8_knownHere_5 : List UInt8 := dkwX8_knownHere_5 ++ dktX8_knownHere_6
def dkwX8_knownHere_4 : List UInt8 := [8, 16, 24, 16, 20, 3, 3, 182, 0, 236, 153, 0, 5, 8, 172, 42, 16, 8, 16, 15, 16, 21, 16, 19]
abbrev dktX8_knownHere_4 : List UInt8 := dkwX8_knownHere_4 ++ dktX8_knownHere_5
def dkwX8_knownHere_3 : List UInt8 := [172, 42, 16, 20, 16, 8, 16, 9, 16, 14, 16, 7, 3, 182, 0, 236, 153, 0, 5, 7, 172, 42, 16, 14]
abbrev dktX8_knownHere_3 : List UInt8 := dkwX8_knownHere_3 ++ dktX8_knownHere_4
def dkwX8_knownHere_2 : List UInt8 := [182, 0, 236, 153, 0, 5, 5, 172, 42, 16, 8, 8, 16, 18, 8, 3, 3, 182, 0, 236, 153, 0, 5, 6]
abbrev dktX8_knownHere_2 : List UInt8 := dkwX8_knownHere_2 ++ dktX8_knownHere_3
def dkwX8_knownHere_1 : List UInt8 := [8, 16, 12, 16, 20, 3, 3, 182, 0, 236, 153, 0, 5, 4, 172, 42, 7, 4, 16, 25, 16, 19, 3, 3]
abbrev dktX8_knownHere_1 : List UInt8 := dkwX8_knownHere_1 ++ dktX8_knownHere_2
def dkwX8_knownHere_0 : List UInt8 := [42, 16, 19, 16, 20, 16, 18, 16, 15, 16, 14, 16, 7, 182, 0, 236, 153, 0, 5, 3, 172, 42, 16, 6]
abbrev dktX8_knownHere_0 : List UInt8 := dkwX8_knownHere_0 ++ dktX8_knownHere_1
theorem dksX8_knownHere_0 : cX8_knownHere.data.toList.drop 0 = dktX8_knownHere_0 := by decide +kernel
theorem dksX8_knownHere_1 : cX8_knownHere.data.toList.drop 24 = dktX8_knownHere_1 := dk_seg dksX8_knownHere_0 24 rfl rfl
theorem dksX8_knownHere_2 : cX8_knownHere.data.toList.drop 48 = dktX8_knownHere_2 := dk_seg dksX8_knownHere_1 24 rfl rfl
theorem dksX8_knownHere_3 : cX8_knownHere.data.toList.drop 72 = dktX8_knownHere_3 := dk_seg dksX8_knownHere_2 24 rfl rfl
theorem dksX8_knownHere_4 : cX8_knownHere.data.toList.drop 96 = dktX8_knownHere_4 := dk_seg dksX8_knownHere_3 24 rfl rfl
theorem dksX8_knownHere_5 : cX8_knownHere.data.toList.drop 120 = dktX8_knownHere_5 := dk_seg dksX8_knownHere_4 24 rfl rfl
theorem dksX8_knownHere_6 : cX8_knownHere.data.toList.drop 142 = dktX8_knownHere_6 := dk_seg dksX8_knownHere_5 22 rfl rfl
theorem dX8_knownHere_0 : decode cX8_knownHere 0 = .ok (.aload_n 0, 1) := dk_42 (dk_at dksX8_knownHere_0 0 rfl rfl)
theorem dX8_knownHere_1 : decode cX8_knownHere 1 = .ok (.bipush 19, 2) := dk_16 19 (dk_at dksX8_knownHere_0 1 rfl rfl)
theorem dX8_knownHere_3 : decode cX8_knownHere 3 = .ok (.bipush 20, 2) := dk_16 20 (dk_at dksX8_knownHere_0 3 rfl rfl)
theorem dX8_knownHere_5 : decode cX8_knownHere 5 = .ok (.bipush 18, 2) := dk_16 18 (dk_at dksX8_knownHere_0 5 rfl rfl)
theorem dX8_knownHere_7 : decode cX8_knownHere 7 = .ok (.bipush 15, 2) := dk_16 15 (dk_at dksX8_knownHere_0 7 rfl rfl)
theorem dX8_knownHere_9 : decode cX8_knownHere 9 = .ok (.bipush 14, 2) := dk_16 14 (dk_at dksX8_knownHere_0 9 rfl rfl)
theorem dX8_knownHere_11 : decode cX8_knownHere 11 = .ok (.bipush 7, 2) := dk_16 7 (dk_at dksX8_knownHere_0 11 rfl rfl)
theorem dX8_knownHere_13 : decode cX8_knownHere 13 = .ok (.invokevirtual 236, 3) := dk_182 0 236 (dk_at dksX8_knownHere_0 13 rfl rfl)
theorem dX8_knownHere_16 : decode cX8_knownHere 16 = .ok (.ifCond .eq 5, 3) := dk_153 0 5 (dk_at dksX8_knownHere_0 16 rfl rfl)
theorem dX8_knownHere_19 : decode cX8_knownHere 19 = .ok (.iconst 0, 1) := dk_3 (dk_at dksX8_knownHere_0 19 rfl rfl)
theorem dX8_knownHere_20 : decode cX8_knownHere 20 = .ok (.ireturn, 1) := dk_172 (dk_at dksX8_knownHere_0 20 rfl rfl)
theorem dX8_knownHere_21 : decode cX8_knownHere 21 = .ok (.aload_n 0, 1) := dk_42 (dk_at dksX8_knownHere_0 21 rfl rfl)
theorem dX8_knownHere_22 : decode cX8_knownHere 22 = .ok (.bipush 6, 2) := dk_16 6 (dk_at dksX8_knownHere_0 22 rfl rfl)
theorem dX8_knownHere_24 : decode cX8_knownHere 24 = .ok (.iconst 5, 1) := dk_8 (dk_at dksX8_knownHere_1 0 rfl rfl)
theorem dX8_knownHere_25 : decode cX8_knownHere 25 = .ok (.bipush 12, 2) := dk_16 12 (dk_at dksX8_knownHere_1 1 rfl rfl)
theorem dX8_knownHere_27 : decode cX8_knownHere 27 = .ok (.bipush 20, 2) := dk_16 20 (dk_at dksX8_knownHere_1 3 rfl rfl)
theorem dX8_knownHere_29 : decode cX8_knownHere 29 = .ok (.iconst 0, 1) := dk_3 (dk_at dksX8_knownHere_1 5 rfl rfl)
theorem dX8_knownHere_30 : decode cX8_knownHere 30 = .ok (.iconst 0, 1) := dk_3 (dk_at dksX8_knownHere_1 6 rfl rfl)
theorem dX8_knownHere_31 : decode cX8_knownHere 31 = .ok (.invokevirtual 236, 3) := dk_182 0 236 (dk_at dksX8_knownHere_1 7 rfl rfl)
theorem dX8_knownHere_34 : decode cX8_knownHere 34 = .ok (.ifCond .eq 5, 3) := dk_153 0 5 (dk_at dksX8_knownHere_1 10 rfl rfl)
theorem dX8_knownHere_37 : decode cX8_knownHere 37 = .ok (.iconst 1, 1) := dk_4 (dk_at dksX8_knownHere_1 13 rfl rfl)
theorem dX8_knownHere_38 : decode cX8_knownHere 38 = .ok (.ireturn, 1) := dk_172 (dk_at dksX8_knownHere_1 14 rfl rfl)
theorem dX8_knownHere_39 : decode cX8_knownHere 39 = .ok (.aload_n 0, 1) := dk_42 (dk_at dksX8_knownHere_1 15 rfl rfl)
theorem dX8_knownHere_40 : decode cX8_knownHere 40 = .ok (.iconst 4, 1) := dk_7 (dk_at dksX8_knownHere_1 16 rfl rfl)
theorem dX8_knownHere_41 : decode cX8_knownHere 41 = .ok (.iconst 1, 1) := dk_4 (dk_at dksX8_knownHere_1 17 rfl rfl)
theorem dX8_knownHere_42 : decode cX8_knownHere 42 = .ok (.bipush 25, 2) := dk_16 25 (dk_at dksX8_knownHere_1 18 rfl rfl)
theorem dX8_knownHere_44 : decode cX8_knownHere 44 = .ok (.bipush 19, 2) := dk_16 19 (dk_at dksX8_knownHere_1 20 rfl rfl)
theorem dX8_knownHere_46 : decode cX8_knownHere 46 = .ok (.iconst 0, 1) := dk_3 (dk_at dksX8_knownHere_1 22 rfl rfl)
theorem dX8_knownHere_47 : decode cX8_knownHere 47 = .ok (.iconst 0, 1) := dk_3 (dk_at dksX8_knownHere_1 23 rfl rfl)
theorem dX8_knownHere_48 : decode cX8_knownHere 48 = .ok (.invokevirtual 236, 3) := dk_182 0 236 (dk_at dksX8_knownHere_2 0 rfl rfl)
theorem dX8_knownHere_51 : decode cX8_knownHere 51 = .ok (.ifCond .eq 5, 3) := dk_153 0 5 (dk_at dksX8_knownHere_2 3 rfl rfl)
theorem dX8_knownHere_54 : decode cX8_knownHere 54 = .ok (.iconst 2, 1) := dk_5 (dk_at dksX8_knownHere_2 6 rfl rfl)
theorem dX8_knownHere_55 : decode cX8_knownHere 55 = .ok (.ireturn, 1) := dk_172 (dk_at dksX8_knownHere_2 7 rfl rfl)
theorem dX8_knownHere_56 : decode cX8_knownHere 56 = .ok (.aload_n 0, 1) := dk_42 (dk_at dksX8_knownHere_2 8 rfl rfl)
theorem dX8_knownHere_57 : decode cX8_knownHere 57 = .ok (.bipush 8, 2) := dk_16 8 (dk_at dksX8_knownHere_2 9 rfl rfl)
theorem dX8_knownHere_59 : decode cX8_knownHere 59 = .ok (.iconst 5, 1) := dk_8 (dk_at dksX8_knownHere_2 11 rfl rfl)
theorem dX8_knownHere_60 : decode cX8_knownHere 60 = .ok (.bipush 18, 2) := dk_16 18 (dk_at dksX8_knownHere_2 12 rfl rfl)
theorem dX8_knownHere_62 : decode cX8_knownHere 62 = .ok (.iconst 5, 1) := dk_8 (dk_at dksX8_knownHere_2 14 rfl rfl)
theorem dX8_knownHere_63 : decode cX8_knownHere 63 = .ok (.iconst 0, 1) := dk_3 (dk_at dksX8_knownHere_2 15 rfl rfl)
theorem dX8_knownHere_64 : decode cX8_knownHere 64 = .ok (.iconst 0, 1) := dk_3 (dk_at dksX8_knownHere_2 16 rfl rfl)
theorem dX8_knownHere_65 : decode cX8_knownHere 65 = .ok (.invokevirtual 236, 3) := dk_182 0 236 (dk_at dksX8_knownHere_2 17 rfl rfl)
theorem dX8_knownHere_68 : decode cX8_knownHere 68 = .ok (.ifCond .eq 5, 3) := dk_153 0 5 (dk_at dksX8_knownHere_2 20 rfl rfl)
theorem dX8_knownHere_71 : decode cX8_knownHere 71 = .ok (.iconst 3, 1) := dk_6 (dk_at dksX8_knownHere_2 23 rfl rfl)
theorem dX8_knownHere_72 : decode cX8_knownHere 72 = .ok (.ireturn, 1) := dk_172 (dk_at dksX8_knownHere_3 0 rfl rfl)
theorem dX8_knownHere_73 : decode cX8_knownHere 73 = .ok (.aload_n 0, 1) := dk_42 (dk_at dksX8_knownHere_3 1 rfl rfl)
theorem dX8_knownHere_74 : decode cX8_knownHere 74 = .ok (.bipush 20, 2) := dk_16 20 (dk_at dksX8_knownHere_3 2 rfl rfl)
theorem dX8_knownHere_76 : decode cX8_knownHere 76 = .ok (.bipush 8, 2) := dk_16 8 (dk_at dksX8_knownHere_3 4 rfl rfl)
theorem dX8_knownHere_78 : decode cX8_knownHere 78 = .ok (.bipush 9, 2) := dk_16 9 (dk_at dksX8_knownHere_3 6 rfl rfl)
theorem dX8_knownHere_80 : decode cX8_knownHere 80 = .ok (.bipush 14, 2) := dk_16 14 (dk_at dksX8_knownHere_3 8 rfl rfl)
theorem dX8_knownHere_82 : decode cX8_knownHere 82 = .ok (.bipush 7, 2) := dk_16 7 (dk_at dksX8_knownHere_3 10 rfl rfl)
theorem dX8_knownHere_84 : decode cX8_knownHere 84 = .ok (.iconst 0, 1) := dk_3 (dk_at dksX8_knownHere_3 12 rfl rfl)
theorem dX8_knownHere_85 : decode cX8_knownHere 85 = .ok (.invokevirtual 236, 3) := dk_182 0 236 (dk_at dksX8_knownHere_3 13 rfl rfl)
theorem dX8_knownHere_88 : decode cX8_knownHere 88 = .ok (.ifCond .eq 5, 3) := dk_153 0 5 (dk_at dksX8_knownHere_3 16 rfl rfl)
theorem dX8_knownHere_91 : decode cX8_knownHere 91 = .ok (.iconst 4, 1) := dk_7 (dk_at dksX8_knownHere_3 19 rfl rfl)
theorem dX8_knownHere_92 : decode cX8_knownHere 92 = .ok (.ireturn, 1) := dk_172 (dk_at dksX8_knownHere_3 20 rfl rfl)
theorem dX8_knownHere_93 : decode cX8_knownHere 93 = .ok (.aload_n 0, 1) := dk_42 (dk_at dksX8_knownHere_3 21 rfl rfl)
theorem dX8_knownHere_94 : decode cX8_knownHere 94 = .ok (.bipush 14, 2) := dk_16 14 (dk_at dksX8_knownHere_3 22 rfl rfl)
theorem dX8_knownHere_96 : decode cX8_knownHere 96 = .ok (.iconst 5, 1) := dk_8 (dk_at dksX8_knownHere_4 0 rfl rfl)
theorem dX8_knownHere_97 : decode cX8_knownHere 97 = .ok (.bipush 24, 2) := dk_16 24 (dk_at dksX8_knownHere_4 1 rfl rfl)
theorem dX8_knownHere_99 : decode cX8_knownHere 99 = .ok (.bipush 20, 2) := dk_16 20 (dk_at dksX8_knownHere_4 3 rfl rfl)
theorem dX8_knownHere_101 : decode cX8_knownHere 101 = .ok (.iconst 0, 1) := dk_3 (dk_at dksX8_knownHere_4 5 rfl rfl)
theorem dX8_knownHere_102 : decode cX8_knownHere 102 = .ok (.iconst 0, 1) := dk_3 (dk_at dksX8_knownHere_4 6 rfl rfl)
theorem dX8_knownHere_103 : decode cX8_knownHere 103 = .ok (.invokevirtual 236, 3) := dk_182 0 236 (dk_at dksX8_knownHere_4 7 rfl rfl)
theorem dX8_knownHere_106 : decode cX8_knownHere 106 = .ok (.ifCond .eq 5, 3) := dk_153 0 5 (dk_at dksX8_knownHere_4 10 rfl rfl)
theorem dX8_knownHere_109 : decode cX8_knownHere 109 = .ok (.iconst 5, 1) := dk_8 (dk_at dksX8_knownHere_4 13 rfl rfl)
theorem dX8_knownHere_110 : decode cX8_knownHere 110 = .ok (.ireturn, 1) := dk_172 (dk_at dksX8_knownHere_4 14 rfl rfl)
theorem dX8_knownHere_111 : decode cX8_knownHere 111 = .ok (.aload_n 0, 1) := dk_42 (dk_at dksX8_knownHere_4 15 rfl rfl)
theorem dX8_knownHere_112 : decode cX8_knownHere 112 = .ok (.bipush 8, 2) := dk_16 8 (dk_at dksX8_knownHere_4 16 rfl rfl)
theorem dX8_knownHere_114 : decode cX8_knownHere 114 = .ok (.bipush 15, 2) := dk_16 15 (dk_at dksX8_knownHere_4 18 rfl rfl)
theorem dX8_knownHere_116 : decode cX8_knownHere 116 = .ok (.bipush 21, 2) := dk_16 21 (dk_at dksX8_knownHere_4 20 rfl rfl)
theorem dX8_knownHere_118 : decode cX8_knownHere 118 = .ok (.bipush 19, 2) := dk_16 19 (dk_at dksX8_knownHere_4 22 rfl rfl)
theorem dX8_knownHere_120 : decode cX8_knownHere 120 = .ok (.iconst 5, 1) := dk_8 (dk_at dksX8_knownHere_5 0 rfl rfl)
theorem dX8_knownHere_121 : decode cX8_knownHere 121 = .ok (.iconst 0, 1) := dk_3 (dk_at dksX8_knownHere_5 1 rfl rfl)
theorem dX8_knownHere_122 : decode cX8_knownHere 122 = .ok (.invokevirtual 236, 3) := dk_182 0 236 (dk_at dksX8_knownHere_5 2 rfl rfl)
theorem dX8_knownHere_125 : decode cX8_knownHere 125 = .ok (.ifCond .eq 6, 3) := dk_153 0 6 (dk_at dksX8_knownHere_5 5 rfl rfl)
theorem dX8_knownHere_128 : decode cX8_knownHere 128 = .ok (.bipush 6, 2) := dk_16 6 (dk_at dksX8_knownHere_5 8 rfl rfl)
theorem dX8_knownHere_130 : decode cX8_knownHere 130 = .ok (.ireturn, 1) := dk_172 (dk_at dksX8_knownHere_5 10 rfl rfl)
theorem dX8_knownHere_131 : decode cX8_knownHere 131 = .ok (.aload_n 0, 1) := dk_42 (dk_at dksX8_knownHere_5 11 rfl rfl)
theorem dX8_knownHere_132 : decode cX8_knownHere 132 = .ok (.iconst 4, 1) := dk_7 (dk_at dksX8_knownHere_5 12 rfl rfl)
theorem dX8_knownHere_133 : decode cX8_knownHere 133 = .ok (.iconst 1, 1) := dk_4 (dk_at dksX8_knownHere_5 13 rfl rfl)
theorem dX8_knownHere_134 : decode cX8_knownHere 134 = .ok (.bipush 25, 2) := dk_16 25 (dk_at dksX8_knownHere_5 14 rfl rfl)
theorem dX8_knownHere_136 : decode cX8_knownHere 136 = .ok (.iconst 0, 1) := dk_3 (dk_at dksX8_knownHere_5 16 rfl rfl)
theorem dX8_knownHere_137 : decode cX8_knownHere 137 = .ok (.iconst 0, 1) := dk_3 (dk_at dksX8_knownHere_5 17 rfl rfl)
theorem dX8_knownHere_138 : decode cX8_knownHere 138 = .ok (.iconst 0, 1) := dk_3 (dk_at dksX8_knownHere_5 18 rfl rfl)
theorem dX8_knownHere_139 : decode cX8_knownHere 139 = .ok (.invokevirtual 236, 3) := dk_182 0 236 (dk_at dksX8_knownHere_5 19 rfl rfl)
theorem dX8_knownHere_142 : decode cX8_knownHere 142 = .ok (.ifCond .eq 8, 3) := dk_153 0 8 (dk_at dksX8_knownHere_6 0 rfl rfl)
theorem dX8_knownHere_145 : decode cX8_knownHere 145 = .ok (.bipush 7, 2) := dk_16 7 (dk_at dksX8_knownHere_6 3 rfl rfl)
theorem dX8_knownHere_147 : decode cX8_knownHere 147 = .ok (.goto 4, 3) := dk_167 0 4 (dk_at dksX8_knownHere_6 5 rfl rfl)
theorem dX8_knownHere_150 : decode cX8_knownHere 150 = .ok (.iconst (-1), 1) := dk_2 (dk_at dksX8_knownHere_6 8 rfl rfl)
theorem dX8_knownHere_151 : decode cX8_knownHere 151 = .ok (.ireturn, 1) := dk_172 (dk_at dksX8_knownHere_6 9 rfl rfl)
abbrev cX8_takes : ByteArray := prog_30_method_20_code
def yX8_takes : MethodName := ⟨RX8, "takes", "(IIIIII)Z"⟩
def dkwX8_takes_1 : List UInt8 := [21, 7, 172]
abbrev dktX8_takes_1 : List UInt8 := dkwX8_takes_1 ++ []
def dkwX8_takes_0 : List UInt8 := [42, 27, 28, 29, 21, 4, 21, 5, 21, 6, 182, 0, 155, 54, 7, 21, 7, 153, 0, 7, 42, 182, 0, 159]
abbrev dktX8_takes_0 : List UInt8 := dkwX8_takes_0 ++ dktX8_takes_1
theorem dksX8_takes_0 : cX8_takes.data.toList.drop 0 = dktX8_takes_0 := by decide +kernel
theorem dksX8_takes_1 : cX8_takes.data.toList.drop 24 = dktX8_takes_1 := dk_seg dksX8_takes_0 24 rfl rfl
theorem dX8_takes_0 : decode cX8_takes 0 = .ok (.aload_n 0, 1) := dk_42 (dk_at dksX8_takes_0 0 rfl rfl)
theorem dX8_takes_1 : decode cX8_takes 1 = .ok (.iload_n 1, 1) := dk_27 (dk_at dksX8_takes_0 1 rfl rfl)
theorem dX8_takes_2 : decode cX8_takes 2 = .ok (.iload_n 2, 1) := dk_28 (dk_at dksX8_takes_0 2 rfl rfl)
theorem dX8_takes_3 : decode cX8_takes 3 = .ok (.iload_n 3, 1) := dk_29 (dk_at dksX8_takes_0 3 rfl rfl)
theorem dX8_takes_4 : decode cX8_takes 4 = .ok (.iload 4, 2) := dk_21 4 (dk_at dksX8_takes_0 4 rfl rfl)
theorem dX8_takes_6 : decode cX8_takes 6 = .ok (.iload 5, 2) := dk_21 5 (dk_at dksX8_takes_0 6 rfl rfl)
theorem dX8_takes_8 : decode cX8_takes 8 = .ok (.iload 6, 2) := dk_21 6 (dk_at dksX8_takes_0 8 rfl rfl)
theorem dX8_takes_10 : decode cX8_takes 10 = .ok (.invokevirtual 155, 3) := dk_182 0 155 (dk_at dksX8_takes_0 10 rfl rfl)
theorem dX8_takes_13 : decode cX8_takes 13 = .ok (.istore 7, 2) := dk_54 7 (dk_at dksX8_takes_0 13 rfl rfl)
theorem dX8_takes_15 : decode cX8_takes 15 = .ok (.iload 7, 2) := dk_21 7 (dk_at dksX8_takes_0 15 rfl rfl)
theorem dX8_takes_17 : decode cX8_takes 17 = .ok (.ifCond .eq 7, 3) := dk_153 0 7 (dk_at dksX8_takes_0 17 rfl rfl)
theorem dX8_takes_20 : decode cX8_takes 20 = .ok (.aload_n 0, 1) := dk_42 (dk_at dksX8_takes_0 20 rfl rfl)
theorem dX8_takes_21 : decode cX8_takes 21 = .ok (.invokevirtual 159, 3) := dk_182 0 159 (dk_at dksX8_takes_0 21 rfl rfl)
theorem dX8_takes_24 : decode cX8_takes 24 = .ok (.iload 7, 2) := dk_21 7 (dk_at dksX8_takes_1 0 rfl rfl)
theorem dX8_takes_26 : decode cX8_takes 26 = .ok (.ireturn, 1) := dk_172 (dk_at dksX8_takes_1 2 rfl rfl)
abbrev cX8_takesSign : ByteArray := prog_30_method_22_code
def yX8_takesSign : MethodName := ⟨RX8, "takesSign", "(I)Z"⟩
def dkwX8_takesSign_2 : List UInt8 := [172]
abbrev dktX8_takesSign_2 : List UInt8 := dkwX8_takesSign_2 ++ []
def dkwX8_takesSign_1 : List UInt8 := [160, 0, 7, 4, 167, 0, 4, 3, 61, 28, 153, 0, 13, 42, 89, 180, 0, 115, 4, 96, 181, 0, 115, 28]
abbrev dktX8_takesSign_1 : List UInt8 := dkwX8_takesSign_1 ++ dktX8_takesSign_2
def dkwX8_takesSign_0 : List UInt8 := [42, 180, 0, 122, 153, 0, 5, 3, 172, 42, 182, 0, 128, 42, 42, 180, 0, 115, 182, 0, 118, 27]
abbrev dktX8_takesSign_0 : List UInt8 := dkwX8_takesSign_0 ++ dktX8_takesSign_1
theorem dksX8_takesSign_0 : cX8_takesSign.data.toList.drop 0 = dktX8_takesSign_0 := by decide +kernel
theorem dksX8_takesSign_1 : cX8_takesSign.data.toList.drop 22 = dktX8_takesSign_1 := dk_seg dksX8_takesSign_0 22 rfl rfl
theorem dksX8_takesSign_2 : cX8_takesSign.data.toList.drop 46 = dktX8_takesSign_2 := dk_seg dksX8_takesSign_1 24 rfl rfl
theorem dX8_takesSign_0 : decode cX8_takesSign 0 = .ok (.aload_n 0, 1) := dk_42 (dk_at dksX8_takesSign_0 0 rfl rfl)
theorem dX8_takesSign_1 : decode cX8_takesSign 1 = .ok (.getfield 122, 3) := dk_180 0 122 (dk_at dksX8_takesSign_0 1 rfl rfl)
theorem dX8_takesSign_4 : decode cX8_takesSign 4 = .ok (.ifCond .eq 5, 3) := dk_153 0 5 (dk_at dksX8_takesSign_0 4 rfl rfl)
theorem dX8_takesSign_7 : decode cX8_takesSign 7 = .ok (.iconst 0, 1) := dk_3 (dk_at dksX8_takesSign_0 7 rfl rfl)
theorem dX8_takesSign_8 : decode cX8_takesSign 8 = .ok (.ireturn, 1) := dk_172 (dk_at dksX8_takesSign_0 8 rfl rfl)
theorem dX8_takesSign_9 : decode cX8_takesSign 9 = .ok (.aload_n 0, 1) := dk_42 (dk_at dksX8_takesSign_0 9 rfl rfl)
theorem dX8_takesSign_10 : decode cX8_takesSign 10 = .ok (.invokevirtual 128, 3) := dk_182 0 128 (dk_at dksX8_takesSign_0 10 rfl rfl)
theorem dX8_takesSign_13 : decode cX8_takesSign 13 = .ok (.aload_n 0, 1) := dk_42 (dk_at dksX8_takesSign_0 13 rfl rfl)
theorem dX8_takesSign_14 : decode cX8_takesSign 14 = .ok (.aload_n 0, 1) := dk_42 (dk_at dksX8_takesSign_0 14 rfl rfl)
theorem dX8_takesSign_15 : decode cX8_takesSign 15 = .ok (.getfield 115, 3) := dk_180 0 115 (dk_at dksX8_takesSign_0 15 rfl rfl)
theorem dX8_takesSign_18 : decode cX8_takesSign 18 = .ok (.invokevirtual 118, 3) := dk_182 0 118 (dk_at dksX8_takesSign_0 18 rfl rfl)
theorem dX8_takesSign_21 : decode cX8_takesSign 21 = .ok (.iload_n 1, 1) := dk_27 (dk_at dksX8_takesSign_0 21 rfl rfl)
theorem dX8_takesSign_22 : decode cX8_takesSign 22 = .ok (.if_icmp .ne 7, 3) := dk_160 0 7 (dk_at dksX8_takesSign_1 0 rfl rfl)
theorem dX8_takesSign_25 : decode cX8_takesSign 25 = .ok (.iconst 1, 1) := dk_4 (dk_at dksX8_takesSign_1 3 rfl rfl)
theorem dX8_takesSign_26 : decode cX8_takesSign 26 = .ok (.goto 4, 3) := dk_167 0 4 (dk_at dksX8_takesSign_1 4 rfl rfl)
theorem dX8_takesSign_29 : decode cX8_takesSign 29 = .ok (.iconst 0, 1) := dk_3 (dk_at dksX8_takesSign_1 7 rfl rfl)
theorem dX8_takesSign_30 : decode cX8_takesSign 30 = .ok (.istore_n 2, 1) := dk_61 (dk_at dksX8_takesSign_1 8 rfl rfl)
theorem dX8_takesSign_31 : decode cX8_takesSign 31 = .ok (.iload_n 2, 1) := dk_28 (dk_at dksX8_takesSign_1 9 rfl rfl)
theorem dX8_takesSign_32 : decode cX8_takesSign 32 = .ok (.ifCond .eq 13, 3) := dk_153 0 13 (dk_at dksX8_takesSign_1 10 rfl rfl)
theorem dX8_takesSign_35 : decode cX8_takesSign 35 = .ok (.aload_n 0, 1) := dk_42 (dk_at dksX8_takesSign_1 13 rfl rfl)
theorem dX8_takesSign_36 : decode cX8_takesSign 36 = .ok (.dup, 1) := dk_89 (dk_at dksX8_takesSign_1 14 rfl rfl)
theorem dX8_takesSign_37 : decode cX8_takesSign 37 = .ok (.getfield 115, 3) := dk_180 0 115 (dk_at dksX8_takesSign_1 15 rfl rfl)
theorem dX8_takesSign_40 : decode cX8_takesSign 40 = .ok (.iconst 1, 1) := dk_4 (dk_at dksX8_takesSign_1 18 rfl rfl)
theorem dX8_takesSign_41 : decode cX8_takesSign 41 = .ok (.iadd, 1) := dk_96 (dk_at dksX8_takesSign_1 19 rfl rfl)
theorem dX8_takesSign_42 : decode cX8_takesSign 42 = .ok (.putfield 115, 3) := dk_181 0 115 (dk_at dksX8_takesSign_1 20 rfl rfl)
theorem dX8_takesSign_45 : decode cX8_takesSign 45 = .ok (.iload_n 2, 1) := dk_28 (dk_at dksX8_takesSign_1 23 rfl rfl)
theorem dX8_takesSign_46 : decode cX8_takesSign 46 = .ok (.ireturn, 1) := dk_172 (dk_at dksX8_takesSign_2 0 rfl rfl)
abbrev cX8_book : ByteArray := prog_30_method_45_code
def yX8_book : MethodName := ⟨RX8, "book", "(I)I"⟩
def dkwX8_book_9 : List UInt8 := [181, 0, 209, 42, 180, 0, 61, 42, 180, 0, 58, 28, 184, 0, 202, 28, 172]
abbrev dktX8_book_9 : List UInt8 := dkwX8_book_9 ++ []
def dkwX8_book_8 : List UInt8 := [167, 255, 114, 42, 180, 0, 122, 153, 0, 8, 42, 182, 0, 199, 172, 42, 2, 181, 0, 9, 42, 28]
abbrev dktX8_book_8 : List UInt8 := dkwX8_book_8 ++ dktX8_book_9
def dkwX8_book_7 : List UInt8 := [28, 50, 3, 21, 4, 79, 42, 180, 0, 61, 28, 50, 4, 21, 5, 79, 132, 2, 1, 42, 182, 0, 128]
abbrev dktX8_book_7 : List UInt8 := dkwX8_book_7 ++ dktX8_book_8
def dkwX8_book_6 : List UInt8 := [16, 99, 182, 0, 168, 54, 5, 42, 16, 59, 182, 0, 185, 42, 180, 0, 122, 154, 0, 26, 42, 180, 0, 61]
abbrev dktX8_book_6 : List UInt8 := dkwX8_book_6 ++ dktX8_book_7
def dkwX8_book_5 : List UInt8 := [167, 255, 220, 42, 180, 0, 122, 154, 0, 15, 28, 16, 6, 160, 0, 9, 42, 6, 29, 182, 0, 135, 42, 3]
abbrev dktX8_book_5 : List UInt8 := dkwX8_book_5 ++ dktX8_book_6
def dkwX8_book_4 : List UInt8 := [180, 0, 61, 21, 5, 50, 3, 46, 21, 4, 160, 0, 9, 42, 5, 29, 182, 0, 135, 132, 5, 1]
abbrev dktX8_book_4 : List UInt8 := dkwX8_book_4 ++ dktX8_book_5
def dkwX8_book_3 : List UInt8 := [16, 60, 182, 0, 168, 54, 4, 3, 54, 5, 21, 5, 28, 162, 0, 36, 42, 180, 0, 122, 154, 0, 23, 42]
abbrev dktX8_book_3 : List UInt8 := dkwX8_book_3 ++ dktX8_book_4
def dkwX8_book_2 : List UInt8 := [180, 0, 122, 154, 0, 141, 42, 180, 0, 115, 42, 180, 0, 112, 162, 0, 130, 42, 180, 0, 115, 62, 42, 3]
abbrev dktX8_book_2 : List UInt8 := dkwX8_book_2 ++ dktX8_book_3
def dkwX8_book_1 : List UInt8 := [4, 167, 0, 4, 3, 4, 4, 182, 0, 189, 153, 0, 5, 3, 172, 42, 27, 182, 0, 193, 3, 61, 42]
abbrev dktX8_book_1 : List UInt8 := dkwX8_book_1 ++ dktX8_book_2
def dkwX8_book_0 : List UInt8 := [42, 3, 181, 0, 106, 42, 27, 3, 42, 180, 0, 109, 184, 0, 140, 153, 0, 9, 27, 16, 60, 164, 0, 7]
abbrev dktX8_book_0 : List UInt8 := dkwX8_book_0 ++ dktX8_book_1
theorem dksX8_book_0 : cX8_book.data.toList.drop 0 = dktX8_book_0 := by decide +kernel
theorem dksX8_book_1 : cX8_book.data.toList.drop 24 = dktX8_book_1 := dk_seg dksX8_book_0 24 rfl rfl
theorem dksX8_book_2 : cX8_book.data.toList.drop 47 = dktX8_book_2 := dk_seg dksX8_book_1 23 rfl rfl
theorem dksX8_book_3 : cX8_book.data.toList.drop 71 = dktX8_book_3 := dk_seg dksX8_book_2 24 rfl rfl
theorem dksX8_book_4 : cX8_book.data.toList.drop 95 = dktX8_book_4 := dk_seg dksX8_book_3 24 rfl rfl
theorem dksX8_book_5 : cX8_book.data.toList.drop 117 = dktX8_book_5 := dk_seg dksX8_book_4 22 rfl rfl
theorem dksX8_book_6 : cX8_book.data.toList.drop 141 = dktX8_book_6 := dk_seg dksX8_book_5 24 rfl rfl
theorem dksX8_book_7 : cX8_book.data.toList.drop 165 = dktX8_book_7 := dk_seg dksX8_book_6 24 rfl rfl
theorem dksX8_book_8 : cX8_book.data.toList.drop 188 = dktX8_book_8 := dk_seg dksX8_book_7 23 rfl rfl
theorem dksX8_book_9 : cX8_book.data.toList.drop 210 = dktX8_book_9 := dk_seg dksX8_book_8 22 rfl rfl
theorem dX8_book_0 : decode cX8_book 0 = .ok (.aload_n 0, 1) := dk_42 (dk_at dksX8_book_0 0 rfl rfl)
theorem dX8_book_1 : decode cX8_book 1 = .ok (.iconst 0, 1) := dk_3 (dk_at dksX8_book_0 1 rfl rfl)
theorem dX8_book_2 : decode cX8_book 2 = .ok (.putfield 106, 3) := dk_181 0 106 (dk_at dksX8_book_0 2 rfl rfl)
theorem dX8_book_5 : decode cX8_book 5 = .ok (.aload_n 0, 1) := dk_42 (dk_at dksX8_book_0 5 rfl rfl)
theorem dX8_book_6 : decode cX8_book 6 = .ok (.iload_n 1, 1) := dk_27 (dk_at dksX8_book_0 6 rfl rfl)
theorem dX8_book_7 : decode cX8_book 7 = .ok (.iconst 0, 1) := dk_3 (dk_at dksX8_book_0 7 rfl rfl)
theorem dX8_book_8 : decode cX8_book 8 = .ok (.aload_n 0, 1) := dk_42 (dk_at dksX8_book_0 8 rfl rfl)
theorem dX8_book_9 : decode cX8_book 9 = .ok (.getfield 109, 3) := dk_180 0 109 (dk_at dksX8_book_0 9 rfl rfl)
theorem dX8_book_12 : decode cX8_book 12 = .ok (.invokestatic 140, 3) := dk_184 0 140 (dk_at dksX8_book_0 12 rfl rfl)
theorem dX8_book_15 : decode cX8_book 15 = .ok (.ifCond .eq 9, 3) := dk_153 0 9 (dk_at dksX8_book_0 15 rfl rfl)
theorem dX8_book_18 : decode cX8_book 18 = .ok (.iload_n 1, 1) := dk_27 (dk_at dksX8_book_0 18 rfl rfl)
theorem dX8_book_19 : decode cX8_book 19 = .ok (.bipush 60, 2) := dk_16 60 (dk_at dksX8_book_0 19 rfl rfl)
theorem dX8_book_21 : decode cX8_book 21 = .ok (.if_icmp .le 7, 3) := dk_164 0 7 (dk_at dksX8_book_0 21 rfl rfl)
theorem dX8_book_24 : decode cX8_book 24 = .ok (.iconst 1, 1) := dk_4 (dk_at dksX8_book_1 0 rfl rfl)
theorem dX8_book_25 : decode cX8_book 25 = .ok (.goto 4, 3) := dk_167 0 4 (dk_at dksX8_book_1 1 rfl rfl)
theorem dX8_book_28 : decode cX8_book 28 = .ok (.iconst 0, 1) := dk_3 (dk_at dksX8_book_1 4 rfl rfl)
theorem dX8_book_29 : decode cX8_book 29 = .ok (.iconst 1, 1) := dk_4 (dk_at dksX8_book_1 5 rfl rfl)
theorem dX8_book_30 : decode cX8_book 30 = .ok (.iconst 1, 1) := dk_4 (dk_at dksX8_book_1 6 rfl rfl)
theorem dX8_book_31 : decode cX8_book 31 = .ok (.invokevirtual 189, 3) := dk_182 0 189 (dk_at dksX8_book_1 7 rfl rfl)
theorem dX8_book_34 : decode cX8_book 34 = .ok (.ifCond .eq 5, 3) := dk_153 0 5 (dk_at dksX8_book_1 10 rfl rfl)
theorem dX8_book_37 : decode cX8_book 37 = .ok (.iconst 0, 1) := dk_3 (dk_at dksX8_book_1 13 rfl rfl)
theorem dX8_book_38 : decode cX8_book 38 = .ok (.ireturn, 1) := dk_172 (dk_at dksX8_book_1 14 rfl rfl)
theorem dX8_book_39 : decode cX8_book 39 = .ok (.aload_n 0, 1) := dk_42 (dk_at dksX8_book_1 15 rfl rfl)
theorem dX8_book_40 : decode cX8_book 40 = .ok (.iload_n 1, 1) := dk_27 (dk_at dksX8_book_1 16 rfl rfl)
theorem dX8_book_41 : decode cX8_book 41 = .ok (.invokevirtual 193, 3) := dk_182 0 193 (dk_at dksX8_book_1 17 rfl rfl)
theorem dX8_book_44 : decode cX8_book 44 = .ok (.iconst 0, 1) := dk_3 (dk_at dksX8_book_1 20 rfl rfl)
theorem dX8_book_45 : decode cX8_book 45 = .ok (.istore_n 2, 1) := dk_61 (dk_at dksX8_book_1 21 rfl rfl)
theorem dX8_book_46 : decode cX8_book 46 = .ok (.aload_n 0, 1) := dk_42 (dk_at dksX8_book_1 22 rfl rfl)
theorem dX8_book_47 : decode cX8_book 47 = .ok (.getfield 122, 3) := dk_180 0 122 (dk_at dksX8_book_2 0 rfl rfl)
theorem dX8_book_50 : decode cX8_book 50 = .ok (.ifCond .ne 141, 3) := dk_154 0 141 (dk_at dksX8_book_2 3 rfl rfl)
theorem dX8_book_53 : decode cX8_book 53 = .ok (.aload_n 0, 1) := dk_42 (dk_at dksX8_book_2 6 rfl rfl)
theorem dX8_book_54 : decode cX8_book 54 = .ok (.getfield 115, 3) := dk_180 0 115 (dk_at dksX8_book_2 7 rfl rfl)
theorem dX8_book_57 : decode cX8_book 57 = .ok (.aload_n 0, 1) := dk_42 (dk_at dksX8_book_2 10 rfl rfl)
theorem dX8_book_58 : decode cX8_book 58 = .ok (.getfield 112, 3) := dk_180 0 112 (dk_at dksX8_book_2 11 rfl rfl)
theorem dX8_book_61 : decode cX8_book 61 = .ok (.if_icmp .ge 130, 3) := dk_162 0 130 (dk_at dksX8_book_2 14 rfl rfl)
theorem dX8_book_64 : decode cX8_book 64 = .ok (.aload_n 0, 1) := dk_42 (dk_at dksX8_book_2 17 rfl rfl)
theorem dX8_book_65 : decode cX8_book 65 = .ok (.getfield 115, 3) := dk_180 0 115 (dk_at dksX8_book_2 18 rfl rfl)
theorem dX8_book_68 : decode cX8_book 68 = .ok (.istore_n 3, 1) := dk_62 (dk_at dksX8_book_2 21 rfl rfl)
theorem dX8_book_69 : decode cX8_book 69 = .ok (.aload_n 0, 1) := dk_42 (dk_at dksX8_book_2 22 rfl rfl)
theorem dX8_book_70 : decode cX8_book 70 = .ok (.iconst 0, 1) := dk_3 (dk_at dksX8_book_2 23 rfl rfl)
theorem dX8_book_71 : decode cX8_book 71 = .ok (.bipush 60, 2) := dk_16 60 (dk_at dksX8_book_3 0 rfl rfl)
theorem dX8_book_73 : decode cX8_book 73 = .ok (.invokevirtual 168, 3) := dk_182 0 168 (dk_at dksX8_book_3 2 rfl rfl)
theorem dX8_book_76 : decode cX8_book 76 = .ok (.istore 4, 2) := dk_54 4 (dk_at dksX8_book_3 5 rfl rfl)
theorem dX8_book_78 : decode cX8_book 78 = .ok (.iconst 0, 1) := dk_3 (dk_at dksX8_book_3 7 rfl rfl)
theorem dX8_book_79 : decode cX8_book 79 = .ok (.istore 5, 2) := dk_54 5 (dk_at dksX8_book_3 8 rfl rfl)
theorem dX8_book_81 : decode cX8_book 81 = .ok (.iload 5, 2) := dk_21 5 (dk_at dksX8_book_3 10 rfl rfl)
theorem dX8_book_83 : decode cX8_book 83 = .ok (.iload_n 2, 1) := dk_28 (dk_at dksX8_book_3 12 rfl rfl)
theorem dX8_book_84 : decode cX8_book 84 = .ok (.if_icmp .ge 36, 3) := dk_162 0 36 (dk_at dksX8_book_3 13 rfl rfl)
theorem dX8_book_87 : decode cX8_book 87 = .ok (.aload_n 0, 1) := dk_42 (dk_at dksX8_book_3 16 rfl rfl)
theorem dX8_book_88 : decode cX8_book 88 = .ok (.getfield 122, 3) := dk_180 0 122 (dk_at dksX8_book_3 17 rfl rfl)
theorem dX8_book_91 : decode cX8_book 91 = .ok (.ifCond .ne 23, 3) := dk_154 0 23 (dk_at dksX8_book_3 20 rfl rfl)
theorem dX8_book_94 : decode cX8_book 94 = .ok (.aload_n 0, 1) := dk_42 (dk_at dksX8_book_3 23 rfl rfl)
theorem dX8_book_95 : decode cX8_book 95 = .ok (.getfield 61, 3) := dk_180 0 61 (dk_at dksX8_book_4 0 rfl rfl)
theorem dX8_book_98 : decode cX8_book 98 = .ok (.iload 5, 2) := dk_21 5 (dk_at dksX8_book_4 3 rfl rfl)
theorem dX8_book_100 : decode cX8_book 100 = .ok (.aaload, 1) := dk_50 (dk_at dksX8_book_4 5 rfl rfl)
theorem dX8_book_101 : decode cX8_book 101 = .ok (.iconst 0, 1) := dk_3 (dk_at dksX8_book_4 6 rfl rfl)
theorem dX8_book_102 : decode cX8_book 102 = .ok (.iaload, 1) := dk_46 (dk_at dksX8_book_4 7 rfl rfl)
theorem dX8_book_103 : decode cX8_book 103 = .ok (.iload 4, 2) := dk_21 4 (dk_at dksX8_book_4 8 rfl rfl)
theorem dX8_book_105 : decode cX8_book 105 = .ok (.if_icmp .ne 9, 3) := dk_160 0 9 (dk_at dksX8_book_4 10 rfl rfl)
theorem dX8_book_108 : decode cX8_book 108 = .ok (.aload_n 0, 1) := dk_42 (dk_at dksX8_book_4 13 rfl rfl)
theorem dX8_book_109 : decode cX8_book 109 = .ok (.iconst 2, 1) := dk_5 (dk_at dksX8_book_4 14 rfl rfl)
theorem dX8_book_110 : decode cX8_book 110 = .ok (.iload_n 3, 1) := dk_29 (dk_at dksX8_book_4 15 rfl rfl)
theorem dX8_book_111 : decode cX8_book 111 = .ok (.invokevirtual 135, 3) := dk_182 0 135 (dk_at dksX8_book_4 16 rfl rfl)
theorem dX8_book_114 : decode cX8_book 114 = .ok (.iinc 5 1, 3) := dk_132 5 1 (dk_at dksX8_book_4 19 rfl rfl)
theorem dX8_book_117 : decode cX8_book 117 = .ok (.goto (-36), 3) := dk_167 255 220 (dk_at dksX8_book_5 0 rfl rfl)
theorem dX8_book_120 : decode cX8_book 120 = .ok (.aload_n 0, 1) := dk_42 (dk_at dksX8_book_5 3 rfl rfl)
theorem dX8_book_121 : decode cX8_book 121 = .ok (.getfield 122, 3) := dk_180 0 122 (dk_at dksX8_book_5 4 rfl rfl)
theorem dX8_book_124 : decode cX8_book 124 = .ok (.ifCond .ne 15, 3) := dk_154 0 15 (dk_at dksX8_book_5 7 rfl rfl)
theorem dX8_book_127 : decode cX8_book 127 = .ok (.iload_n 2, 1) := dk_28 (dk_at dksX8_book_5 10 rfl rfl)
theorem dX8_book_128 : decode cX8_book 128 = .ok (.bipush 6, 2) := dk_16 6 (dk_at dksX8_book_5 11 rfl rfl)
theorem dX8_book_130 : decode cX8_book 130 = .ok (.if_icmp .ne 9, 3) := dk_160 0 9 (dk_at dksX8_book_5 13 rfl rfl)
theorem dX8_book_133 : decode cX8_book 133 = .ok (.aload_n 0, 1) := dk_42 (dk_at dksX8_book_5 16 rfl rfl)
theorem dX8_book_134 : decode cX8_book 134 = .ok (.iconst 3, 1) := dk_6 (dk_at dksX8_book_5 17 rfl rfl)
theorem dX8_book_135 : decode cX8_book 135 = .ok (.iload_n 3, 1) := dk_29 (dk_at dksX8_book_5 18 rfl rfl)
theorem dX8_book_136 : decode cX8_book 136 = .ok (.invokevirtual 135, 3) := dk_182 0 135 (dk_at dksX8_book_5 19 rfl rfl)
theorem dX8_book_139 : decode cX8_book 139 = .ok (.aload_n 0, 1) := dk_42 (dk_at dksX8_book_5 22 rfl rfl)
theorem dX8_book_140 : decode cX8_book 140 = .ok (.iconst 0, 1) := dk_3 (dk_at dksX8_book_5 23 rfl rfl)
theorem dX8_book_141 : decode cX8_book 141 = .ok (.bipush 99, 2) := dk_16 99 (dk_at dksX8_book_6 0 rfl rfl)
theorem dX8_book_143 : decode cX8_book 143 = .ok (.invokevirtual 168, 3) := dk_182 0 168 (dk_at dksX8_book_6 2 rfl rfl)
theorem dX8_book_146 : decode cX8_book 146 = .ok (.istore 5, 2) := dk_54 5 (dk_at dksX8_book_6 5 rfl rfl)
theorem dX8_book_148 : decode cX8_book 148 = .ok (.aload_n 0, 1) := dk_42 (dk_at dksX8_book_6 7 rfl rfl)
theorem dX8_book_149 : decode cX8_book 149 = .ok (.bipush 59, 2) := dk_16 59 (dk_at dksX8_book_6 8 rfl rfl)
theorem dX8_book_151 : decode cX8_book 151 = .ok (.invokevirtual 185, 3) := dk_182 0 185 (dk_at dksX8_book_6 10 rfl rfl)
theorem dX8_book_154 : decode cX8_book 154 = .ok (.aload_n 0, 1) := dk_42 (dk_at dksX8_book_6 13 rfl rfl)
theorem dX8_book_155 : decode cX8_book 155 = .ok (.getfield 122, 3) := dk_180 0 122 (dk_at dksX8_book_6 14 rfl rfl)
theorem dX8_book_158 : decode cX8_book 158 = .ok (.ifCond .ne 26, 3) := dk_154 0 26 (dk_at dksX8_book_6 17 rfl rfl)
theorem dX8_book_161 : decode cX8_book 161 = .ok (.aload_n 0, 1) := dk_42 (dk_at dksX8_book_6 20 rfl rfl)
theorem dX8_book_162 : decode cX8_book 162 = .ok (.getfield 61, 3) := dk_180 0 61 (dk_at dksX8_book_6 21 rfl rfl)
theorem dX8_book_165 : decode cX8_book 165 = .ok (.iload_n 2, 1) := dk_28 (dk_at dksX8_book_7 0 rfl rfl)
theorem dX8_book_166 : decode cX8_book 166 = .ok (.aaload, 1) := dk_50 (dk_at dksX8_book_7 1 rfl rfl)
theorem dX8_book_167 : decode cX8_book 167 = .ok (.iconst 0, 1) := dk_3 (dk_at dksX8_book_7 2 rfl rfl)
theorem dX8_book_168 : decode cX8_book 168 = .ok (.iload 4, 2) := dk_21 4 (dk_at dksX8_book_7 3 rfl rfl)
theorem dX8_book_170 : decode cX8_book 170 = .ok (.iastore, 1) := dk_79 (dk_at dksX8_book_7 5 rfl rfl)
theorem dX8_book_171 : decode cX8_book 171 = .ok (.aload_n 0, 1) := dk_42 (dk_at dksX8_book_7 6 rfl rfl)
theorem dX8_book_172 : decode cX8_book 172 = .ok (.getfield 61, 3) := dk_180 0 61 (dk_at dksX8_book_7 7 rfl rfl)
theorem dX8_book_175 : decode cX8_book 175 = .ok (.iload_n 2, 1) := dk_28 (dk_at dksX8_book_7 10 rfl rfl)
theorem dX8_book_176 : decode cX8_book 176 = .ok (.aaload, 1) := dk_50 (dk_at dksX8_book_7 11 rfl rfl)
theorem dX8_book_177 : decode cX8_book 177 = .ok (.iconst 1, 1) := dk_4 (dk_at dksX8_book_7 12 rfl rfl)
theorem dX8_book_178 : decode cX8_book 178 = .ok (.iload 5, 2) := dk_21 5 (dk_at dksX8_book_7 13 rfl rfl)
theorem dX8_book_180 : decode cX8_book 180 = .ok (.iastore, 1) := dk_79 (dk_at dksX8_book_7 15 rfl rfl)
theorem dX8_book_181 : decode cX8_book 181 = .ok (.iinc 2 1, 3) := dk_132 2 1 (dk_at dksX8_book_7 16 rfl rfl)
theorem dX8_book_184 : decode cX8_book 184 = .ok (.aload_n 0, 1) := dk_42 (dk_at dksX8_book_7 19 rfl rfl)
theorem dX8_book_185 : decode cX8_book 185 = .ok (.invokevirtual 128, 3) := dk_182 0 128 (dk_at dksX8_book_7 20 rfl rfl)
theorem dX8_book_188 : decode cX8_book 188 = .ok (.goto (-142), 3) := dk_167 255 114 (dk_at dksX8_book_8 0 rfl rfl)
theorem dX8_book_191 : decode cX8_book 191 = .ok (.aload_n 0, 1) := dk_42 (dk_at dksX8_book_8 3 rfl rfl)
theorem dX8_book_192 : decode cX8_book 192 = .ok (.getfield 122, 3) := dk_180 0 122 (dk_at dksX8_book_8 4 rfl rfl)
theorem dX8_book_195 : decode cX8_book 195 = .ok (.ifCond .eq 8, 3) := dk_153 0 8 (dk_at dksX8_book_8 7 rfl rfl)
theorem dX8_book_198 : decode cX8_book 198 = .ok (.aload_n 0, 1) := dk_42 (dk_at dksX8_book_8 10 rfl rfl)
theorem dX8_book_199 : decode cX8_book 199 = .ok (.invokevirtual 199, 3) := dk_182 0 199 (dk_at dksX8_book_8 11 rfl rfl)
theorem dX8_book_202 : decode cX8_book 202 = .ok (.ireturn, 1) := dk_172 (dk_at dksX8_book_8 14 rfl rfl)
theorem dX8_book_203 : decode cX8_book 203 = .ok (.aload_n 0, 1) := dk_42 (dk_at dksX8_book_8 15 rfl rfl)
theorem dX8_book_204 : decode cX8_book 204 = .ok (.iconst (-1), 1) := dk_2 (dk_at dksX8_book_8 16 rfl rfl)
theorem dX8_book_205 : decode cX8_book 205 = .ok (.putfield 9, 3) := dk_181 0 9 (dk_at dksX8_book_8 17 rfl rfl)
theorem dX8_book_208 : decode cX8_book 208 = .ok (.aload_n 0, 1) := dk_42 (dk_at dksX8_book_8 20 rfl rfl)
theorem dX8_book_209 : decode cX8_book 209 = .ok (.iload_n 2, 1) := dk_28 (dk_at dksX8_book_8 21 rfl rfl)
theorem dX8_book_210 : decode cX8_book 210 = .ok (.putfield 209, 3) := dk_181 0 209 (dk_at dksX8_book_9 0 rfl rfl)
theorem dX8_book_213 : decode cX8_book 213 = .ok (.aload_n 0, 1) := dk_42 (dk_at dksX8_book_9 3 rfl rfl)
theorem dX8_book_214 : decode cX8_book 214 = .ok (.getfield 61, 3) := dk_180 0 61 (dk_at dksX8_book_9 4 rfl rfl)
theorem dX8_book_217 : decode cX8_book 217 = .ok (.aload_n 0, 1) := dk_42 (dk_at dksX8_book_9 7 rfl rfl)
theorem dX8_book_218 : decode cX8_book 218 = .ok (.getfield 58, 3) := dk_180 0 58 (dk_at dksX8_book_9 8 rfl rfl)
theorem dX8_book_221 : decode cX8_book 221 = .ok (.iload_n 2, 1) := dk_28 (dk_at dksX8_book_9 11 rfl rfl)
theorem dX8_book_222 : decode cX8_book 222 = .ok (.invokestatic 202, 3) := dk_184 0 202 (dk_at dksX8_book_9 12 rfl rfl)
theorem dX8_book_225 : decode cX8_book 225 = .ok (.iload_n 2, 1) := dk_28 (dk_at dksX8_book_9 15 rfl rfl)
theorem dX8_book_226 : decode cX8_book 226 = .ok (.ireturn, 1) := dk_172 (dk_at dksX8_book_9 16 rfl rfl)
abbrev cX8_fault : ByteArray := prog_30_method_46_code
def yX8_fault : MethodName := ⟨RX8, "fault", "()I"⟩
def dkwX8_fault_0 : List UInt8 := [42, 3, 181, 0, 106, 42, 180, 0, 9, 172]
abbrev dktX8_fault_0 : List UInt8 := dkwX8_fault_0 ++ []
theorem dksX8_fault_0 : cX8_fault.data.toList.drop 0 = dktX8_fault_0 := by decide +kernel
theorem dX8_fault_0 : decode cX8_fault 0 = .ok (.aload_n 0, 1) := dk_42 (dk_at dksX8_fault_0 0 rfl rfl)
theorem dX8_fault_1 : decode cX8_fault 1 = .ok (.iconst 0, 1) := dk_3 (dk_at dksX8_fault_0 1 rfl rfl)
theorem dX8_fault_2 : decode cX8_fault 2 = .ok (.putfield 106, 3) := dk_181 0 106 (dk_at dksX8_fault_0 2 rfl rfl)
theorem dX8_fault_5 : decode cX8_fault 5 = .ok (.aload_n 0, 1) := dk_42 (dk_at dksX8_fault_0 5 rfl rfl)
theorem dX8_fault_6 : decode cX8_fault 6 = .ok (.getfield 9, 3) := dk_180 0 9 (dk_at dksX8_fault_0 6 rfl rfl)
theorem dX8_fault_9 : decode cX8_fault 9 = .ok (.ireturn, 1) := dk_172 (dk_at dksX8_fault_0 9 rfl rfl)
abbrev cX8_work : ByteArray := prog_30_method_59_code
def yX8_work : MethodName := ⟨RX8, "work", "(I)I"⟩
def dkwX8_work_7 : List UInt8 := [180, 1, 6, 182, 1, 53, 42, 180, 1, 60, 172]
abbrev dktX8_work_7 : List UInt8 := dkwX8_work_7 ++ []
def dkwX8_work_6 : List UInt8 := [4, 96, 181, 0, 212, 42, 3, 181, 1, 50, 42, 3, 181, 1, 60, 42, 3, 181, 0, 215, 42, 3, 42]
abbrev dktX8_work_6 : List UInt8 := dkwX8_work_6 ++ dktX8_work_7
def dkwX8_work_5 : List UInt8 := [181, 0, 9, 42, 180, 0, 73, 42, 180, 0, 82, 42, 180, 0, 212, 50, 184, 1, 63, 42, 89, 180, 0, 212]
abbrev dktX8_work_5 : List UInt8 := dkwX8_work_5 ++ dktX8_work_6
def dkwX8_work_4 : List UInt8 := [182, 1, 9, 42, 182, 0, 128, 167, 255, 230, 42, 180, 0, 122, 153, 0, 8, 42, 182, 0, 199, 172, 42, 2]
abbrev dktX8_work_4 : List UInt8 := dkwX8_work_4 ++ dktX8_work_5
def dkwX8_work_3 : List UInt8 := [181, 1, 6, 42, 180, 0, 122, 154, 0, 25, 42, 180, 0, 115, 42, 180, 0, 112, 162, 0, 14, 42]
abbrev dktX8_work_3 : List UInt8 := dkwX8_work_3 ++ dktX8_work_4
def dkwX8_work_2 : List UInt8 := [160, 0, 16, 42, 3, 181, 0, 109, 42, 2, 181, 0, 9, 16, 236, 172, 42, 27, 182, 0, 193, 42, 3]
abbrev dktX8_work_2 : List UInt8 := dkwX8_work_2 ++ dktX8_work_3
def dkwX8_work_1 : List UInt8 := [164, 0, 7, 4, 167, 0, 4, 3, 4, 4, 182, 0, 189, 153, 0, 5, 3, 172, 42, 180, 0, 212, 16, 16]
abbrev dktX8_work_1 : List UInt8 := dkwX8_work_1 ++ dktX8_work_2
def dkwX8_work_0 : List UInt8 := [42, 3, 181, 0, 106, 42, 27, 3, 42, 180, 0, 109, 184, 0, 140, 153, 0, 10, 27, 17, 0, 150]
abbrev dktX8_work_0 : List UInt8 := dkwX8_work_0 ++ dktX8_work_1
theorem dksX8_work_0 : cX8_work.data.toList.drop 0 = dktX8_work_0 := by decide +kernel
theorem dksX8_work_1 : cX8_work.data.toList.drop 22 = dktX8_work_1 := dk_seg dksX8_work_0 22 rfl rfl
theorem dksX8_work_2 : cX8_work.data.toList.drop 46 = dktX8_work_2 := dk_seg dksX8_work_1 24 rfl rfl
theorem dksX8_work_3 : cX8_work.data.toList.drop 69 = dktX8_work_3 := dk_seg dksX8_work_2 23 rfl rfl
theorem dksX8_work_4 : cX8_work.data.toList.drop 91 = dktX8_work_4 := dk_seg dksX8_work_3 22 rfl rfl
theorem dksX8_work_5 : cX8_work.data.toList.drop 115 = dktX8_work_5 := dk_seg dksX8_work_4 24 rfl rfl
theorem dksX8_work_6 : cX8_work.data.toList.drop 139 = dktX8_work_6 := dk_seg dksX8_work_5 24 rfl rfl
theorem dksX8_work_7 : cX8_work.data.toList.drop 162 = dktX8_work_7 := dk_seg dksX8_work_6 23 rfl rfl
theorem dX8_work_0 : decode cX8_work 0 = .ok (.aload_n 0, 1) := dk_42 (dk_at dksX8_work_0 0 rfl rfl)
theorem dX8_work_1 : decode cX8_work 1 = .ok (.iconst 0, 1) := dk_3 (dk_at dksX8_work_0 1 rfl rfl)
theorem dX8_work_2 : decode cX8_work 2 = .ok (.putfield 106, 3) := dk_181 0 106 (dk_at dksX8_work_0 2 rfl rfl)
theorem dX8_work_5 : decode cX8_work 5 = .ok (.aload_n 0, 1) := dk_42 (dk_at dksX8_work_0 5 rfl rfl)
theorem dX8_work_6 : decode cX8_work 6 = .ok (.iload_n 1, 1) := dk_27 (dk_at dksX8_work_0 6 rfl rfl)
theorem dX8_work_7 : decode cX8_work 7 = .ok (.iconst 0, 1) := dk_3 (dk_at dksX8_work_0 7 rfl rfl)
theorem dX8_work_8 : decode cX8_work 8 = .ok (.aload_n 0, 1) := dk_42 (dk_at dksX8_work_0 8 rfl rfl)
theorem dX8_work_9 : decode cX8_work 9 = .ok (.getfield 109, 3) := dk_180 0 109 (dk_at dksX8_work_0 9 rfl rfl)
theorem dX8_work_12 : decode cX8_work 12 = .ok (.invokestatic 140, 3) := dk_184 0 140 (dk_at dksX8_work_0 12 rfl rfl)
theorem dX8_work_15 : decode cX8_work 15 = .ok (.ifCond .eq 10, 3) := dk_153 0 10 (dk_at dksX8_work_0 15 rfl rfl)
theorem dX8_work_18 : decode cX8_work 18 = .ok (.iload_n 1, 1) := dk_27 (dk_at dksX8_work_0 18 rfl rfl)
theorem dX8_work_19 : decode cX8_work 19 = .ok (.sipush 150, 3) := dk_17 0 150 (dk_at dksX8_work_0 19 rfl rfl)
theorem dX8_work_22 : decode cX8_work 22 = .ok (.if_icmp .le 7, 3) := dk_164 0 7 (dk_at dksX8_work_1 0 rfl rfl)
theorem dX8_work_25 : decode cX8_work 25 = .ok (.iconst 1, 1) := dk_4 (dk_at dksX8_work_1 3 rfl rfl)
theorem dX8_work_26 : decode cX8_work 26 = .ok (.goto 4, 3) := dk_167 0 4 (dk_at dksX8_work_1 4 rfl rfl)
theorem dX8_work_29 : decode cX8_work 29 = .ok (.iconst 0, 1) := dk_3 (dk_at dksX8_work_1 7 rfl rfl)
theorem dX8_work_30 : decode cX8_work 30 = .ok (.iconst 1, 1) := dk_4 (dk_at dksX8_work_1 8 rfl rfl)
theorem dX8_work_31 : decode cX8_work 31 = .ok (.iconst 1, 1) := dk_4 (dk_at dksX8_work_1 9 rfl rfl)
theorem dX8_work_32 : decode cX8_work 32 = .ok (.invokevirtual 189, 3) := dk_182 0 189 (dk_at dksX8_work_1 10 rfl rfl)
theorem dX8_work_35 : decode cX8_work 35 = .ok (.ifCond .eq 5, 3) := dk_153 0 5 (dk_at dksX8_work_1 13 rfl rfl)
theorem dX8_work_38 : decode cX8_work 38 = .ok (.iconst 0, 1) := dk_3 (dk_at dksX8_work_1 16 rfl rfl)
theorem dX8_work_39 : decode cX8_work 39 = .ok (.ireturn, 1) := dk_172 (dk_at dksX8_work_1 17 rfl rfl)
theorem dX8_work_40 : decode cX8_work 40 = .ok (.aload_n 0, 1) := dk_42 (dk_at dksX8_work_1 18 rfl rfl)
theorem dX8_work_41 : decode cX8_work 41 = .ok (.getfield 212, 3) := dk_180 0 212 (dk_at dksX8_work_1 19 rfl rfl)
theorem dX8_work_44 : decode cX8_work 44 = .ok (.bipush 16, 2) := dk_16 16 (dk_at dksX8_work_1 22 rfl rfl)
theorem dX8_work_46 : decode cX8_work 46 = .ok (.if_icmp .ne 16, 3) := dk_160 0 16 (dk_at dksX8_work_2 0 rfl rfl)
theorem dX8_work_49 : decode cX8_work 49 = .ok (.aload_n 0, 1) := dk_42 (dk_at dksX8_work_2 3 rfl rfl)
theorem dX8_work_50 : decode cX8_work 50 = .ok (.iconst 0, 1) := dk_3 (dk_at dksX8_work_2 4 rfl rfl)
theorem dX8_work_51 : decode cX8_work 51 = .ok (.putfield 109, 3) := dk_181 0 109 (dk_at dksX8_work_2 5 rfl rfl)
theorem dX8_work_54 : decode cX8_work 54 = .ok (.aload_n 0, 1) := dk_42 (dk_at dksX8_work_2 8 rfl rfl)
theorem dX8_work_55 : decode cX8_work 55 = .ok (.iconst (-1), 1) := dk_2 (dk_at dksX8_work_2 9 rfl rfl)
theorem dX8_work_56 : decode cX8_work 56 = .ok (.putfield 9, 3) := dk_181 0 9 (dk_at dksX8_work_2 10 rfl rfl)
theorem dX8_work_59 : decode cX8_work 59 = .ok (.bipush (-20), 2) := dk_16 236 (dk_at dksX8_work_2 13 rfl rfl)
theorem dX8_work_61 : decode cX8_work 61 = .ok (.ireturn, 1) := dk_172 (dk_at dksX8_work_2 15 rfl rfl)
theorem dX8_work_62 : decode cX8_work 62 = .ok (.aload_n 0, 1) := dk_42 (dk_at dksX8_work_2 16 rfl rfl)
theorem dX8_work_63 : decode cX8_work 63 = .ok (.iload_n 1, 1) := dk_27 (dk_at dksX8_work_2 17 rfl rfl)
theorem dX8_work_64 : decode cX8_work 64 = .ok (.invokevirtual 193, 3) := dk_182 0 193 (dk_at dksX8_work_2 18 rfl rfl)
theorem dX8_work_67 : decode cX8_work 67 = .ok (.aload_n 0, 1) := dk_42 (dk_at dksX8_work_2 21 rfl rfl)
theorem dX8_work_68 : decode cX8_work 68 = .ok (.iconst 0, 1) := dk_3 (dk_at dksX8_work_2 22 rfl rfl)
theorem dX8_work_69 : decode cX8_work 69 = .ok (.putfield 262, 3) := dk_181 1 6 (dk_at dksX8_work_3 0 rfl rfl)
theorem dX8_work_72 : decode cX8_work 72 = .ok (.aload_n 0, 1) := dk_42 (dk_at dksX8_work_3 3 rfl rfl)
theorem dX8_work_73 : decode cX8_work 73 = .ok (.getfield 122, 3) := dk_180 0 122 (dk_at dksX8_work_3 4 rfl rfl)
theorem dX8_work_76 : decode cX8_work 76 = .ok (.ifCond .ne 25, 3) := dk_154 0 25 (dk_at dksX8_work_3 7 rfl rfl)
theorem dX8_work_79 : decode cX8_work 79 = .ok (.aload_n 0, 1) := dk_42 (dk_at dksX8_work_3 10 rfl rfl)
theorem dX8_work_80 : decode cX8_work 80 = .ok (.getfield 115, 3) := dk_180 0 115 (dk_at dksX8_work_3 11 rfl rfl)
theorem dX8_work_83 : decode cX8_work 83 = .ok (.aload_n 0, 1) := dk_42 (dk_at dksX8_work_3 14 rfl rfl)
theorem dX8_work_84 : decode cX8_work 84 = .ok (.getfield 112, 3) := dk_180 0 112 (dk_at dksX8_work_3 15 rfl rfl)
theorem dX8_work_87 : decode cX8_work 87 = .ok (.if_icmp .ge 14, 3) := dk_162 0 14 (dk_at dksX8_work_3 18 rfl rfl)
theorem dX8_work_90 : decode cX8_work 90 = .ok (.aload_n 0, 1) := dk_42 (dk_at dksX8_work_3 21 rfl rfl)
theorem dX8_work_91 : decode cX8_work 91 = .ok (.invokevirtual 265, 3) := dk_182 1 9 (dk_at dksX8_work_4 0 rfl rfl)
theorem dX8_work_94 : decode cX8_work 94 = .ok (.aload_n 0, 1) := dk_42 (dk_at dksX8_work_4 3 rfl rfl)
theorem dX8_work_95 : decode cX8_work 95 = .ok (.invokevirtual 128, 3) := dk_182 0 128 (dk_at dksX8_work_4 4 rfl rfl)
theorem dX8_work_98 : decode cX8_work 98 = .ok (.goto (-26), 3) := dk_167 255 230 (dk_at dksX8_work_4 7 rfl rfl)
theorem dX8_work_101 : decode cX8_work 101 = .ok (.aload_n 0, 1) := dk_42 (dk_at dksX8_work_4 10 rfl rfl)
theorem dX8_work_102 : decode cX8_work 102 = .ok (.getfield 122, 3) := dk_180 0 122 (dk_at dksX8_work_4 11 rfl rfl)
theorem dX8_work_105 : decode cX8_work 105 = .ok (.ifCond .eq 8, 3) := dk_153 0 8 (dk_at dksX8_work_4 14 rfl rfl)
theorem dX8_work_108 : decode cX8_work 108 = .ok (.aload_n 0, 1) := dk_42 (dk_at dksX8_work_4 17 rfl rfl)
theorem dX8_work_109 : decode cX8_work 109 = .ok (.invokevirtual 199, 3) := dk_182 0 199 (dk_at dksX8_work_4 18 rfl rfl)
theorem dX8_work_112 : decode cX8_work 112 = .ok (.ireturn, 1) := dk_172 (dk_at dksX8_work_4 21 rfl rfl)
theorem dX8_work_113 : decode cX8_work 113 = .ok (.aload_n 0, 1) := dk_42 (dk_at dksX8_work_4 22 rfl rfl)
theorem dX8_work_114 : decode cX8_work 114 = .ok (.iconst (-1), 1) := dk_2 (dk_at dksX8_work_4 23 rfl rfl)
theorem dX8_work_115 : decode cX8_work 115 = .ok (.putfield 9, 3) := dk_181 0 9 (dk_at dksX8_work_5 0 rfl rfl)
theorem dX8_work_118 : decode cX8_work 118 = .ok (.aload_n 0, 1) := dk_42 (dk_at dksX8_work_5 3 rfl rfl)
theorem dX8_work_119 : decode cX8_work 119 = .ok (.getfield 73, 3) := dk_180 0 73 (dk_at dksX8_work_5 4 rfl rfl)
theorem dX8_work_122 : decode cX8_work 122 = .ok (.aload_n 0, 1) := dk_42 (dk_at dksX8_work_5 7 rfl rfl)
theorem dX8_work_123 : decode cX8_work 123 = .ok (.getfield 82, 3) := dk_180 0 82 (dk_at dksX8_work_5 8 rfl rfl)
theorem dX8_work_126 : decode cX8_work 126 = .ok (.aload_n 0, 1) := dk_42 (dk_at dksX8_work_5 11 rfl rfl)
theorem dX8_work_127 : decode cX8_work 127 = .ok (.getfield 212, 3) := dk_180 0 212 (dk_at dksX8_work_5 12 rfl rfl)
theorem dX8_work_130 : decode cX8_work 130 = .ok (.aaload, 1) := dk_50 (dk_at dksX8_work_5 15 rfl rfl)
theorem dX8_work_131 : decode cX8_work 131 = .ok (.invokestatic 319, 3) := dk_184 1 63 (dk_at dksX8_work_5 16 rfl rfl)
theorem dX8_work_134 : decode cX8_work 134 = .ok (.aload_n 0, 1) := dk_42 (dk_at dksX8_work_5 19 rfl rfl)
theorem dX8_work_135 : decode cX8_work 135 = .ok (.dup, 1) := dk_89 (dk_at dksX8_work_5 20 rfl rfl)
theorem dX8_work_136 : decode cX8_work 136 = .ok (.getfield 212, 3) := dk_180 0 212 (dk_at dksX8_work_5 21 rfl rfl)
theorem dX8_work_139 : decode cX8_work 139 = .ok (.iconst 1, 1) := dk_4 (dk_at dksX8_work_6 0 rfl rfl)
theorem dX8_work_140 : decode cX8_work 140 = .ok (.iadd, 1) := dk_96 (dk_at dksX8_work_6 1 rfl rfl)
theorem dX8_work_141 : decode cX8_work 141 = .ok (.putfield 212, 3) := dk_181 0 212 (dk_at dksX8_work_6 2 rfl rfl)
theorem dX8_work_144 : decode cX8_work 144 = .ok (.aload_n 0, 1) := dk_42 (dk_at dksX8_work_6 5 rfl rfl)
theorem dX8_work_145 : decode cX8_work 145 = .ok (.iconst 0, 1) := dk_3 (dk_at dksX8_work_6 6 rfl rfl)
theorem dX8_work_146 : decode cX8_work 146 = .ok (.putfield 306, 3) := dk_181 1 50 (dk_at dksX8_work_6 7 rfl rfl)
theorem dX8_work_149 : decode cX8_work 149 = .ok (.aload_n 0, 1) := dk_42 (dk_at dksX8_work_6 10 rfl rfl)
theorem dX8_work_150 : decode cX8_work 150 = .ok (.iconst 0, 1) := dk_3 (dk_at dksX8_work_6 11 rfl rfl)
theorem dX8_work_151 : decode cX8_work 151 = .ok (.putfield 316, 3) := dk_181 1 60 (dk_at dksX8_work_6 12 rfl rfl)
theorem dX8_work_154 : decode cX8_work 154 = .ok (.aload_n 0, 1) := dk_42 (dk_at dksX8_work_6 15 rfl rfl)
theorem dX8_work_155 : decode cX8_work 155 = .ok (.iconst 0, 1) := dk_3 (dk_at dksX8_work_6 16 rfl rfl)
theorem dX8_work_156 : decode cX8_work 156 = .ok (.putfield 215, 3) := dk_181 0 215 (dk_at dksX8_work_6 17 rfl rfl)
theorem dX8_work_159 : decode cX8_work 159 = .ok (.aload_n 0, 1) := dk_42 (dk_at dksX8_work_6 20 rfl rfl)
theorem dX8_work_160 : decode cX8_work 160 = .ok (.iconst 0, 1) := dk_3 (dk_at dksX8_work_6 21 rfl rfl)
theorem dX8_work_161 : decode cX8_work 161 = .ok (.aload_n 0, 1) := dk_42 (dk_at dksX8_work_6 22 rfl rfl)
theorem dX8_work_162 : decode cX8_work 162 = .ok (.getfield 262, 3) := dk_180 1 6 (dk_at dksX8_work_7 0 rfl rfl)
theorem dX8_work_165 : decode cX8_work 165 = .ok (.invokevirtual 309, 3) := dk_182 1 53 (dk_at dksX8_work_7 3 rfl rfl)
theorem dX8_work_168 : decode cX8_work 168 = .ok (.aload_n 0, 1) := dk_42 (dk_at dksX8_work_7 6 rfl rfl)
theorem dX8_work_169 : decode cX8_work 169 = .ok (.getfield 316, 3) := dk_180 1 60 (dk_at dksX8_work_7 7 rfl rfl)
theorem dX8_work_172 : decode cX8_work 172 = .ok (.ireturn, 1) := dk_172 (dk_at dksX8_work_7 10 rfl rfl)
abbrev cX8_readsStep : ByteArray := prog_30_method_44_code
def yX8_readsStep : MethodName := ⟨RX8, "readsStep", "()V"⟩
def dkwX8_readsStep_8 : List UInt8 := [180, 0, 165, 4, 100, 181, 0, 165, 44, 6, 42, 180, 1, 6, 79, 42, 16, 59, 182, 0, 185, 177]
abbrev dktX8_readsStep_8 : List UInt8 := dkwX8_readsStep_8 ++ []
def dkwX8_readsStep_7 : List UInt8 := [159, 0, 14, 42, 182, 1, 9, 42, 182, 0, 128, 167, 255, 228, 42, 16, 93, 182, 0, 185, 42, 89]
abbrev dktX8_readsStep_7 : List UInt8 := dkwX8_readsStep_7 ++ dktX8_readsStep_8
def dkwX8_readsStep_6 : List UInt8 := [182, 0, 185, 42, 182, 0, 128, 42, 180, 0, 122, 154, 0, 27, 42, 42, 180, 0, 115, 182, 0, 118, 16, 93]
abbrev dktX8_readsStep_6 : List UInt8 := dkwX8_readsStep_6 ++ dktX8_readsStep_7
def dkwX8_readsStep_5 : List UInt8 := [16, 9, 182, 0, 168, 79, 27, 7, 160, 0, 70, 44, 4, 42, 3, 16, 60, 182, 0, 168, 79, 42, 16, 91]
abbrev dktX8_readsStep_5 : List UInt8 := dkwX8_readsStep_5 ++ dktX8_readsStep_6
def dkwX8_readsStep_4 : List UInt8 := [5, 42, 3, 42, 180, 0, 23, 3, 46, 4, 100, 182, 0, 168, 79, 27, 5, 160, 0, 13, 44, 5, 42, 3]
abbrev dktX8_readsStep_4 : List UInt8 := dkwX8_readsStep_4 ++ dktX8_readsStep_5
def dkwX8_readsStep_3 : List UInt8 := [162, 0, 19, 44, 4, 42, 3, 42, 180, 0, 23, 5, 46, 4, 100, 182, 0, 168, 79, 27, 154, 0, 19, 44]
abbrev dktX8_readsStep_3 : List UInt8 := dkwX8_readsStep_3 ++ dktX8_readsStep_4
def dkwX8_readsStep_2 : List UInt8 := [42, 180, 1, 6, 50, 77, 42, 89, 180, 1, 6, 4, 96, 181, 1, 6, 44, 3, 27, 79, 27, 6]
abbrev dktX8_readsStep_2 : List UInt8 := dkwX8_readsStep_2 ++ dktX8_readsStep_3
def dkwX8_readsStep_1 : List UInt8 := [42, 182, 0, 239, 154, 0, 4, 177, 42, 180, 0, 122, 153, 0, 4, 177, 42, 182, 0, 159, 42, 180, 0, 70]
abbrev dktX8_readsStep_1 : List UInt8 := dkwX8_readsStep_1 ++ dktX8_readsStep_2
def dkwX8_readsStep_0 : List UInt8 := [42, 182, 1, 3, 60, 27, 2, 160, 0, 12, 42, 4, 42, 180, 0, 115, 182, 0, 135, 27, 7, 160, 0, 11]
abbrev dktX8_readsStep_0 : List UInt8 := dkwX8_readsStep_0 ++ dktX8_readsStep_1
theorem dksX8_readsStep_0 : cX8_readsStep.data.toList.drop 0 = dktX8_readsStep_0 := by decide +kernel
theorem dksX8_readsStep_1 : cX8_readsStep.data.toList.drop 24 = dktX8_readsStep_1 := dk_seg dksX8_readsStep_0 24 rfl rfl
theorem dksX8_readsStep_2 : cX8_readsStep.data.toList.drop 48 = dktX8_readsStep_2 := dk_seg dksX8_readsStep_1 24 rfl rfl
theorem dksX8_readsStep_3 : cX8_readsStep.data.toList.drop 70 = dktX8_readsStep_3 := dk_seg dksX8_readsStep_2 22 rfl rfl
theorem dksX8_readsStep_4 : cX8_readsStep.data.toList.drop 94 = dktX8_readsStep_4 := dk_seg dksX8_readsStep_3 24 rfl rfl
theorem dksX8_readsStep_5 : cX8_readsStep.data.toList.drop 118 = dktX8_readsStep_5 := dk_seg dksX8_readsStep_4 24 rfl rfl
theorem dksX8_readsStep_6 : cX8_readsStep.data.toList.drop 142 = dktX8_readsStep_6 := dk_seg dksX8_readsStep_5 24 rfl rfl
theorem dksX8_readsStep_7 : cX8_readsStep.data.toList.drop 166 = dktX8_readsStep_7 := dk_seg dksX8_readsStep_6 24 rfl rfl
theorem dksX8_readsStep_8 : cX8_readsStep.data.toList.drop 188 = dktX8_readsStep_8 := dk_seg dksX8_readsStep_7 22 rfl rfl
theorem dX8_readsStep_0 : decode cX8_readsStep 0 = .ok (.aload_n 0, 1) := dk_42 (dk_at dksX8_readsStep_0 0 rfl rfl)
theorem dX8_readsStep_1 : decode cX8_readsStep 1 = .ok (.invokevirtual 259, 3) := dk_182 1 3 (dk_at dksX8_readsStep_0 1 rfl rfl)
theorem dX8_readsStep_4 : decode cX8_readsStep 4 = .ok (.istore_n 1, 1) := dk_60 (dk_at dksX8_readsStep_0 4 rfl rfl)
theorem dX8_readsStep_5 : decode cX8_readsStep 5 = .ok (.iload_n 1, 1) := dk_27 (dk_at dksX8_readsStep_0 5 rfl rfl)
theorem dX8_readsStep_6 : decode cX8_readsStep 6 = .ok (.iconst (-1), 1) := dk_2 (dk_at dksX8_readsStep_0 6 rfl rfl)
theorem dX8_readsStep_7 : decode cX8_readsStep 7 = .ok (.if_icmp .ne 12, 3) := dk_160 0 12 (dk_at dksX8_readsStep_0 7 rfl rfl)
theorem dX8_readsStep_10 : decode cX8_readsStep 10 = .ok (.aload_n 0, 1) := dk_42 (dk_at dksX8_readsStep_0 10 rfl rfl)
theorem dX8_readsStep_11 : decode cX8_readsStep 11 = .ok (.iconst 1, 1) := dk_4 (dk_at dksX8_readsStep_0 11 rfl rfl)
theorem dX8_readsStep_12 : decode cX8_readsStep 12 = .ok (.aload_n 0, 1) := dk_42 (dk_at dksX8_readsStep_0 12 rfl rfl)
theorem dX8_readsStep_13 : decode cX8_readsStep 13 = .ok (.getfield 115, 3) := dk_180 0 115 (dk_at dksX8_readsStep_0 13 rfl rfl)
theorem dX8_readsStep_16 : decode cX8_readsStep 16 = .ok (.invokevirtual 135, 3) := dk_182 0 135 (dk_at dksX8_readsStep_0 16 rfl rfl)
theorem dX8_readsStep_19 : decode cX8_readsStep 19 = .ok (.iload_n 1, 1) := dk_27 (dk_at dksX8_readsStep_0 19 rfl rfl)
theorem dX8_readsStep_20 : decode cX8_readsStep 20 = .ok (.iconst 4, 1) := dk_7 (dk_at dksX8_readsStep_0 20 rfl rfl)
theorem dX8_readsStep_21 : decode cX8_readsStep 21 = .ok (.if_icmp .ne 11, 3) := dk_160 0 11 (dk_at dksX8_readsStep_0 21 rfl rfl)
theorem dX8_readsStep_24 : decode cX8_readsStep 24 = .ok (.aload_n 0, 1) := dk_42 (dk_at dksX8_readsStep_1 0 rfl rfl)
theorem dX8_readsStep_25 : decode cX8_readsStep 25 = .ok (.invokevirtual 239, 3) := dk_182 0 239 (dk_at dksX8_readsStep_1 1 rfl rfl)
theorem dX8_readsStep_28 : decode cX8_readsStep 28 = .ok (.ifCond .ne 4, 3) := dk_154 0 4 (dk_at dksX8_readsStep_1 4 rfl rfl)
theorem dX8_readsStep_31 : decode cX8_readsStep 31 = .ok (.return_, 1) := dk_177 (dk_at dksX8_readsStep_1 7 rfl rfl)
theorem dX8_readsStep_32 : decode cX8_readsStep 32 = .ok (.aload_n 0, 1) := dk_42 (dk_at dksX8_readsStep_1 8 rfl rfl)
theorem dX8_readsStep_33 : decode cX8_readsStep 33 = .ok (.getfield 122, 3) := dk_180 0 122 (dk_at dksX8_readsStep_1 9 rfl rfl)
theorem dX8_readsStep_36 : decode cX8_readsStep 36 = .ok (.ifCond .eq 4, 3) := dk_153 0 4 (dk_at dksX8_readsStep_1 12 rfl rfl)
theorem dX8_readsStep_39 : decode cX8_readsStep 39 = .ok (.return_, 1) := dk_177 (dk_at dksX8_readsStep_1 15 rfl rfl)
theorem dX8_readsStep_40 : decode cX8_readsStep 40 = .ok (.aload_n 0, 1) := dk_42 (dk_at dksX8_readsStep_1 16 rfl rfl)
theorem dX8_readsStep_41 : decode cX8_readsStep 41 = .ok (.invokevirtual 159, 3) := dk_182 0 159 (dk_at dksX8_readsStep_1 17 rfl rfl)
theorem dX8_readsStep_44 : decode cX8_readsStep 44 = .ok (.aload_n 0, 1) := dk_42 (dk_at dksX8_readsStep_1 20 rfl rfl)
theorem dX8_readsStep_45 : decode cX8_readsStep 45 = .ok (.getfield 70, 3) := dk_180 0 70 (dk_at dksX8_readsStep_1 21 rfl rfl)
theorem dX8_readsStep_48 : decode cX8_readsStep 48 = .ok (.aload_n 0, 1) := dk_42 (dk_at dksX8_readsStep_2 0 rfl rfl)
theorem dX8_readsStep_49 : decode cX8_readsStep 49 = .ok (.getfield 262, 3) := dk_180 1 6 (dk_at dksX8_readsStep_2 1 rfl rfl)
theorem dX8_readsStep_52 : decode cX8_readsStep 52 = .ok (.aaload, 1) := dk_50 (dk_at dksX8_readsStep_2 4 rfl rfl)
theorem dX8_readsStep_53 : decode cX8_readsStep 53 = .ok (.astore_n 2, 1) := dk_77 (dk_at dksX8_readsStep_2 5 rfl rfl)
theorem dX8_readsStep_54 : decode cX8_readsStep 54 = .ok (.aload_n 0, 1) := dk_42 (dk_at dksX8_readsStep_2 6 rfl rfl)
theorem dX8_readsStep_55 : decode cX8_readsStep 55 = .ok (.dup, 1) := dk_89 (dk_at dksX8_readsStep_2 7 rfl rfl)
theorem dX8_readsStep_56 : decode cX8_readsStep 56 = .ok (.getfield 262, 3) := dk_180 1 6 (dk_at dksX8_readsStep_2 8 rfl rfl)
theorem dX8_readsStep_59 : decode cX8_readsStep 59 = .ok (.iconst 1, 1) := dk_4 (dk_at dksX8_readsStep_2 11 rfl rfl)
theorem dX8_readsStep_60 : decode cX8_readsStep 60 = .ok (.iadd, 1) := dk_96 (dk_at dksX8_readsStep_2 12 rfl rfl)
theorem dX8_readsStep_61 : decode cX8_readsStep 61 = .ok (.putfield 262, 3) := dk_181 1 6 (dk_at dksX8_readsStep_2 13 rfl rfl)
theorem dX8_readsStep_64 : decode cX8_readsStep 64 = .ok (.aload_n 2, 1) := dk_44 (dk_at dksX8_readsStep_2 16 rfl rfl)
theorem dX8_readsStep_65 : decode cX8_readsStep 65 = .ok (.iconst 0, 1) := dk_3 (dk_at dksX8_readsStep_2 17 rfl rfl)
theorem dX8_readsStep_66 : decode cX8_readsStep 66 = .ok (.iload_n 1, 1) := dk_27 (dk_at dksX8_readsStep_2 18 rfl rfl)
theorem dX8_readsStep_67 : decode cX8_readsStep 67 = .ok (.iastore, 1) := dk_79 (dk_at dksX8_readsStep_2 19 rfl rfl)
theorem dX8_readsStep_68 : decode cX8_readsStep 68 = .ok (.iload_n 1, 1) := dk_27 (dk_at dksX8_readsStep_2 20 rfl rfl)
theorem dX8_readsStep_69 : decode cX8_readsStep 69 = .ok (.iconst 3, 1) := dk_6 (dk_at dksX8_readsStep_2 21 rfl rfl)
theorem dX8_readsStep_70 : decode cX8_readsStep 70 = .ok (.if_icmp .ge 19, 3) := dk_162 0 19 (dk_at dksX8_readsStep_3 0 rfl rfl)
theorem dX8_readsStep_73 : decode cX8_readsStep 73 = .ok (.aload_n 2, 1) := dk_44 (dk_at dksX8_readsStep_3 3 rfl rfl)
theorem dX8_readsStep_74 : decode cX8_readsStep 74 = .ok (.iconst 1, 1) := dk_4 (dk_at dksX8_readsStep_3 4 rfl rfl)
theorem dX8_readsStep_75 : decode cX8_readsStep 75 = .ok (.aload_n 0, 1) := dk_42 (dk_at dksX8_readsStep_3 5 rfl rfl)
theorem dX8_readsStep_76 : decode cX8_readsStep 76 = .ok (.iconst 0, 1) := dk_3 (dk_at dksX8_readsStep_3 6 rfl rfl)
theorem dX8_readsStep_77 : decode cX8_readsStep 77 = .ok (.aload_n 0, 1) := dk_42 (dk_at dksX8_readsStep_3 7 rfl rfl)
theorem dX8_readsStep_78 : decode cX8_readsStep 78 = .ok (.getfield 23, 3) := dk_180 0 23 (dk_at dksX8_readsStep_3 8 rfl rfl)
theorem dX8_readsStep_81 : decode cX8_readsStep 81 = .ok (.iconst 2, 1) := dk_5 (dk_at dksX8_readsStep_3 11 rfl rfl)
theorem dX8_readsStep_82 : decode cX8_readsStep 82 = .ok (.iaload, 1) := dk_46 (dk_at dksX8_readsStep_3 12 rfl rfl)
theorem dX8_readsStep_83 : decode cX8_readsStep 83 = .ok (.iconst 1, 1) := dk_4 (dk_at dksX8_readsStep_3 13 rfl rfl)
theorem dX8_readsStep_84 : decode cX8_readsStep 84 = .ok (.isub, 1) := dk_100 (dk_at dksX8_readsStep_3 14 rfl rfl)
theorem dX8_readsStep_85 : decode cX8_readsStep 85 = .ok (.invokevirtual 168, 3) := dk_182 0 168 (dk_at dksX8_readsStep_3 15 rfl rfl)
theorem dX8_readsStep_88 : decode cX8_readsStep 88 = .ok (.iastore, 1) := dk_79 (dk_at dksX8_readsStep_3 18 rfl rfl)
theorem dX8_readsStep_89 : decode cX8_readsStep 89 = .ok (.iload_n 1, 1) := dk_27 (dk_at dksX8_readsStep_3 19 rfl rfl)
theorem dX8_readsStep_90 : decode cX8_readsStep 90 = .ok (.ifCond .ne 19, 3) := dk_154 0 19 (dk_at dksX8_readsStep_3 20 rfl rfl)
theorem dX8_readsStep_93 : decode cX8_readsStep 93 = .ok (.aload_n 2, 1) := dk_44 (dk_at dksX8_readsStep_3 23 rfl rfl)
theorem dX8_readsStep_94 : decode cX8_readsStep 94 = .ok (.iconst 2, 1) := dk_5 (dk_at dksX8_readsStep_4 0 rfl rfl)
theorem dX8_readsStep_95 : decode cX8_readsStep 95 = .ok (.aload_n 0, 1) := dk_42 (dk_at dksX8_readsStep_4 1 rfl rfl)
theorem dX8_readsStep_96 : decode cX8_readsStep 96 = .ok (.iconst 0, 1) := dk_3 (dk_at dksX8_readsStep_4 2 rfl rfl)
theorem dX8_readsStep_97 : decode cX8_readsStep 97 = .ok (.aload_n 0, 1) := dk_42 (dk_at dksX8_readsStep_4 3 rfl rfl)
theorem dX8_readsStep_98 : decode cX8_readsStep 98 = .ok (.getfield 23, 3) := dk_180 0 23 (dk_at dksX8_readsStep_4 4 rfl rfl)
theorem dX8_readsStep_101 : decode cX8_readsStep 101 = .ok (.iconst 0, 1) := dk_3 (dk_at dksX8_readsStep_4 7 rfl rfl)
theorem dX8_readsStep_102 : decode cX8_readsStep 102 = .ok (.iaload, 1) := dk_46 (dk_at dksX8_readsStep_4 8 rfl rfl)
theorem dX8_readsStep_103 : decode cX8_readsStep 103 = .ok (.iconst 1, 1) := dk_4 (dk_at dksX8_readsStep_4 9 rfl rfl)
theorem dX8_readsStep_104 : decode cX8_readsStep 104 = .ok (.isub, 1) := dk_100 (dk_at dksX8_readsStep_4 10 rfl rfl)
theorem dX8_readsStep_105 : decode cX8_readsStep 105 = .ok (.invokevirtual 168, 3) := dk_182 0 168 (dk_at dksX8_readsStep_4 11 rfl rfl)
theorem dX8_readsStep_108 : decode cX8_readsStep 108 = .ok (.iastore, 1) := dk_79 (dk_at dksX8_readsStep_4 14 rfl rfl)
theorem dX8_readsStep_109 : decode cX8_readsStep 109 = .ok (.iload_n 1, 1) := dk_27 (dk_at dksX8_readsStep_4 15 rfl rfl)
theorem dX8_readsStep_110 : decode cX8_readsStep 110 = .ok (.iconst 2, 1) := dk_5 (dk_at dksX8_readsStep_4 16 rfl rfl)
theorem dX8_readsStep_111 : decode cX8_readsStep 111 = .ok (.if_icmp .ne 13, 3) := dk_160 0 13 (dk_at dksX8_readsStep_4 17 rfl rfl)
theorem dX8_readsStep_114 : decode cX8_readsStep 114 = .ok (.aload_n 2, 1) := dk_44 (dk_at dksX8_readsStep_4 20 rfl rfl)
theorem dX8_readsStep_115 : decode cX8_readsStep 115 = .ok (.iconst 2, 1) := dk_5 (dk_at dksX8_readsStep_4 21 rfl rfl)
theorem dX8_readsStep_116 : decode cX8_readsStep 116 = .ok (.aload_n 0, 1) := dk_42 (dk_at dksX8_readsStep_4 22 rfl rfl)
theorem dX8_readsStep_117 : decode cX8_readsStep 117 = .ok (.iconst 0, 1) := dk_3 (dk_at dksX8_readsStep_4 23 rfl rfl)
theorem dX8_readsStep_118 : decode cX8_readsStep 118 = .ok (.bipush 9, 2) := dk_16 9 (dk_at dksX8_readsStep_5 0 rfl rfl)
theorem dX8_readsStep_120 : decode cX8_readsStep 120 = .ok (.invokevirtual 168, 3) := dk_182 0 168 (dk_at dksX8_readsStep_5 2 rfl rfl)
theorem dX8_readsStep_123 : decode cX8_readsStep 123 = .ok (.iastore, 1) := dk_79 (dk_at dksX8_readsStep_5 5 rfl rfl)
theorem dX8_readsStep_124 : decode cX8_readsStep 124 = .ok (.iload_n 1, 1) := dk_27 (dk_at dksX8_readsStep_5 6 rfl rfl)
theorem dX8_readsStep_125 : decode cX8_readsStep 125 = .ok (.iconst 4, 1) := dk_7 (dk_at dksX8_readsStep_5 7 rfl rfl)
theorem dX8_readsStep_126 : decode cX8_readsStep 126 = .ok (.if_icmp .ne 70, 3) := dk_160 0 70 (dk_at dksX8_readsStep_5 8 rfl rfl)
theorem dX8_readsStep_129 : decode cX8_readsStep 129 = .ok (.aload_n 2, 1) := dk_44 (dk_at dksX8_readsStep_5 11 rfl rfl)
theorem dX8_readsStep_130 : decode cX8_readsStep 130 = .ok (.iconst 1, 1) := dk_4 (dk_at dksX8_readsStep_5 12 rfl rfl)
theorem dX8_readsStep_131 : decode cX8_readsStep 131 = .ok (.aload_n 0, 1) := dk_42 (dk_at dksX8_readsStep_5 13 rfl rfl)
theorem dX8_readsStep_132 : decode cX8_readsStep 132 = .ok (.iconst 0, 1) := dk_3 (dk_at dksX8_readsStep_5 14 rfl rfl)
theorem dX8_readsStep_133 : decode cX8_readsStep 133 = .ok (.bipush 60, 2) := dk_16 60 (dk_at dksX8_readsStep_5 15 rfl rfl)
theorem dX8_readsStep_135 : decode cX8_readsStep 135 = .ok (.invokevirtual 168, 3) := dk_182 0 168 (dk_at dksX8_readsStep_5 17 rfl rfl)
theorem dX8_readsStep_138 : decode cX8_readsStep 138 = .ok (.iastore, 1) := dk_79 (dk_at dksX8_readsStep_5 20 rfl rfl)
theorem dX8_readsStep_139 : decode cX8_readsStep 139 = .ok (.aload_n 0, 1) := dk_42 (dk_at dksX8_readsStep_5 21 rfl rfl)
theorem dX8_readsStep_140 : decode cX8_readsStep 140 = .ok (.bipush 91, 2) := dk_16 91 (dk_at dksX8_readsStep_5 22 rfl rfl)
theorem dX8_readsStep_142 : decode cX8_readsStep 142 = .ok (.invokevirtual 185, 3) := dk_182 0 185 (dk_at dksX8_readsStep_6 0 rfl rfl)
theorem dX8_readsStep_145 : decode cX8_readsStep 145 = .ok (.aload_n 0, 1) := dk_42 (dk_at dksX8_readsStep_6 3 rfl rfl)
theorem dX8_readsStep_146 : decode cX8_readsStep 146 = .ok (.invokevirtual 128, 3) := dk_182 0 128 (dk_at dksX8_readsStep_6 4 rfl rfl)
theorem dX8_readsStep_149 : decode cX8_readsStep 149 = .ok (.aload_n 0, 1) := dk_42 (dk_at dksX8_readsStep_6 7 rfl rfl)
theorem dX8_readsStep_150 : decode cX8_readsStep 150 = .ok (.getfield 122, 3) := dk_180 0 122 (dk_at dksX8_readsStep_6 8 rfl rfl)
theorem dX8_readsStep_153 : decode cX8_readsStep 153 = .ok (.ifCond .ne 27, 3) := dk_154 0 27 (dk_at dksX8_readsStep_6 11 rfl rfl)
theorem dX8_readsStep_156 : decode cX8_readsStep 156 = .ok (.aload_n 0, 1) := dk_42 (dk_at dksX8_readsStep_6 14 rfl rfl)
theorem dX8_readsStep_157 : decode cX8_readsStep 157 = .ok (.aload_n 0, 1) := dk_42 (dk_at dksX8_readsStep_6 15 rfl rfl)
theorem dX8_readsStep_158 : decode cX8_readsStep 158 = .ok (.getfield 115, 3) := dk_180 0 115 (dk_at dksX8_readsStep_6 16 rfl rfl)
theorem dX8_readsStep_161 : decode cX8_readsStep 161 = .ok (.invokevirtual 118, 3) := dk_182 0 118 (dk_at dksX8_readsStep_6 19 rfl rfl)
theorem dX8_readsStep_164 : decode cX8_readsStep 164 = .ok (.bipush 93, 2) := dk_16 93 (dk_at dksX8_readsStep_6 22 rfl rfl)
theorem dX8_readsStep_166 : decode cX8_readsStep 166 = .ok (.if_icmp .eq 14, 3) := dk_159 0 14 (dk_at dksX8_readsStep_7 0 rfl rfl)
theorem dX8_readsStep_169 : decode cX8_readsStep 169 = .ok (.aload_n 0, 1) := dk_42 (dk_at dksX8_readsStep_7 3 rfl rfl)
theorem dX8_readsStep_170 : decode cX8_readsStep 170 = .ok (.invokevirtual 265, 3) := dk_182 1 9 (dk_at dksX8_readsStep_7 4 rfl rfl)
theorem dX8_readsStep_173 : decode cX8_readsStep 173 = .ok (.aload_n 0, 1) := dk_42 (dk_at dksX8_readsStep_7 7 rfl rfl)
theorem dX8_readsStep_174 : decode cX8_readsStep 174 = .ok (.invokevirtual 128, 3) := dk_182 0 128 (dk_at dksX8_readsStep_7 8 rfl rfl)
theorem dX8_readsStep_177 : decode cX8_readsStep 177 = .ok (.goto (-28), 3) := dk_167 255 228 (dk_at dksX8_readsStep_7 11 rfl rfl)
theorem dX8_readsStep_180 : decode cX8_readsStep 180 = .ok (.aload_n 0, 1) := dk_42 (dk_at dksX8_readsStep_7 14 rfl rfl)
theorem dX8_readsStep_181 : decode cX8_readsStep 181 = .ok (.bipush 93, 2) := dk_16 93 (dk_at dksX8_readsStep_7 15 rfl rfl)
theorem dX8_readsStep_183 : decode cX8_readsStep 183 = .ok (.invokevirtual 185, 3) := dk_182 0 185 (dk_at dksX8_readsStep_7 17 rfl rfl)
theorem dX8_readsStep_186 : decode cX8_readsStep 186 = .ok (.aload_n 0, 1) := dk_42 (dk_at dksX8_readsStep_7 20 rfl rfl)
theorem dX8_readsStep_187 : decode cX8_readsStep 187 = .ok (.dup, 1) := dk_89 (dk_at dksX8_readsStep_7 21 rfl rfl)
theorem dX8_readsStep_188 : decode cX8_readsStep 188 = .ok (.getfield 165, 3) := dk_180 0 165 (dk_at dksX8_readsStep_8 0 rfl rfl)
theorem dX8_readsStep_191 : decode cX8_readsStep 191 = .ok (.iconst 1, 1) := dk_4 (dk_at dksX8_readsStep_8 3 rfl rfl)
theorem dX8_readsStep_192 : decode cX8_readsStep 192 = .ok (.isub, 1) := dk_100 (dk_at dksX8_readsStep_8 4 rfl rfl)
theorem dX8_readsStep_193 : decode cX8_readsStep 193 = .ok (.putfield 165, 3) := dk_181 0 165 (dk_at dksX8_readsStep_8 5 rfl rfl)
theorem dX8_readsStep_196 : decode cX8_readsStep 196 = .ok (.aload_n 2, 1) := dk_44 (dk_at dksX8_readsStep_8 8 rfl rfl)
theorem dX8_readsStep_197 : decode cX8_readsStep 197 = .ok (.iconst 3, 1) := dk_6 (dk_at dksX8_readsStep_8 9 rfl rfl)
theorem dX8_readsStep_198 : decode cX8_readsStep 198 = .ok (.aload_n 0, 1) := dk_42 (dk_at dksX8_readsStep_8 10 rfl rfl)
theorem dX8_readsStep_199 : decode cX8_readsStep 199 = .ok (.getfield 262, 3) := dk_180 1 6 (dk_at dksX8_readsStep_8 11 rfl rfl)
theorem dX8_readsStep_202 : decode cX8_readsStep 202 = .ok (.iastore, 1) := dk_79 (dk_at dksX8_readsStep_8 14 rfl rfl)
theorem dX8_readsStep_203 : decode cX8_readsStep 203 = .ok (.aload_n 0, 1) := dk_42 (dk_at dksX8_readsStep_8 15 rfl rfl)
theorem dX8_readsStep_204 : decode cX8_readsStep 204 = .ok (.bipush 59, 2) := dk_16 59 (dk_at dksX8_readsStep_8 16 rfl rfl)
theorem dX8_readsStep_206 : decode cX8_readsStep 206 = .ok (.invokevirtual 185, 3) := dk_182 0 185 (dk_at dksX8_readsStep_8 18 rfl rfl)
theorem dX8_readsStep_209 : decode cX8_readsStep 209 = .ok (.return_, 1) := dk_177 (dk_at dksX8_readsStep_8 21 rfl rfl)
abbrev cX8_stepHere : ByteArray := prog_30_method_43_code
def yX8_stepHere : MethodName := ⟨RX8, "stepHere", "()I"⟩
def dkwX8_stepHere_3 : List UInt8 := [16, 7, 4, 16, 9, 16, 14, 3, 182, 0, 155, 153, 0, 7, 7, 167, 0, 4, 2, 172]
abbrev dktX8_stepHere_3 : List UInt8 := dkwX8_stepHere_3 ++ []
def dkwX8_stepHere_2 : List UInt8 := [153, 0, 5, 5, 172, 42, 7, 4, 16, 25, 3, 3, 3, 182, 0, 155, 153, 0, 5, 6, 172, 42, 4]
abbrev dktX8_stepHere_2 : List UInt8 := dkwX8_stepHere_2 ++ dktX8_stepHere_3
def dkwX8_stepHere_1 : List UInt8 := [8, 3, 3, 182, 0, 155, 153, 0, 5, 4, 172, 42, 16, 12, 4, 16, 25, 3, 3, 3, 182, 0, 155]
abbrev dktX8_stepHere_1 : List UInt8 := dkwX8_stepHere_1 ++ dktX8_stepHere_2
def dkwX8_stepHere_0 : List UInt8 := [42, 16, 16, 16, 21, 16, 20, 3, 3, 3, 182, 0, 155, 153, 0, 5, 3, 172, 42, 16, 20, 4, 16, 11]
abbrev dktX8_stepHere_0 : List UInt8 := dkwX8_stepHere_0 ++ dktX8_stepHere_1
theorem dksX8_stepHere_0 : cX8_stepHere.data.toList.drop 0 = dktX8_stepHere_0 := by decide +kernel
theorem dksX8_stepHere_1 : cX8_stepHere.data.toList.drop 24 = dktX8_stepHere_1 := dk_seg dksX8_stepHere_0 24 rfl rfl
theorem dksX8_stepHere_2 : cX8_stepHere.data.toList.drop 47 = dktX8_stepHere_2 := dk_seg dksX8_stepHere_1 23 rfl rfl
theorem dksX8_stepHere_3 : cX8_stepHere.data.toList.drop 70 = dktX8_stepHere_3 := dk_seg dksX8_stepHere_2 23 rfl rfl
theorem dX8_stepHere_0 : decode cX8_stepHere 0 = .ok (.aload_n 0, 1) := dk_42 (dk_at dksX8_stepHere_0 0 rfl rfl)
theorem dX8_stepHere_1 : decode cX8_stepHere 1 = .ok (.bipush 16, 2) := dk_16 16 (dk_at dksX8_stepHere_0 1 rfl rfl)
theorem dX8_stepHere_3 : decode cX8_stepHere 3 = .ok (.bipush 21, 2) := dk_16 21 (dk_at dksX8_stepHere_0 3 rfl rfl)
theorem dX8_stepHere_5 : decode cX8_stepHere 5 = .ok (.bipush 20, 2) := dk_16 20 (dk_at dksX8_stepHere_0 5 rfl rfl)
theorem dX8_stepHere_7 : decode cX8_stepHere 7 = .ok (.iconst 0, 1) := dk_3 (dk_at dksX8_stepHere_0 7 rfl rfl)
theorem dX8_stepHere_8 : decode cX8_stepHere 8 = .ok (.iconst 0, 1) := dk_3 (dk_at dksX8_stepHere_0 8 rfl rfl)
theorem dX8_stepHere_9 : decode cX8_stepHere 9 = .ok (.iconst 0, 1) := dk_3 (dk_at dksX8_stepHere_0 9 rfl rfl)
theorem dX8_stepHere_10 : decode cX8_stepHere 10 = .ok (.invokevirtual 155, 3) := dk_182 0 155 (dk_at dksX8_stepHere_0 10 rfl rfl)
theorem dX8_stepHere_13 : decode cX8_stepHere 13 = .ok (.ifCond .eq 5, 3) := dk_153 0 5 (dk_at dksX8_stepHere_0 13 rfl rfl)
theorem dX8_stepHere_16 : decode cX8_stepHere 16 = .ok (.iconst 0, 1) := dk_3 (dk_at dksX8_stepHere_0 16 rfl rfl)
theorem dX8_stepHere_17 : decode cX8_stepHere 17 = .ok (.ireturn, 1) := dk_172 (dk_at dksX8_stepHere_0 17 rfl rfl)
theorem dX8_stepHere_18 : decode cX8_stepHere 18 = .ok (.aload_n 0, 1) := dk_42 (dk_at dksX8_stepHere_0 18 rfl rfl)
theorem dX8_stepHere_19 : decode cX8_stepHere 19 = .ok (.bipush 20, 2) := dk_16 20 (dk_at dksX8_stepHere_0 19 rfl rfl)
theorem dX8_stepHere_21 : decode cX8_stepHere 21 = .ok (.iconst 1, 1) := dk_4 (dk_at dksX8_stepHere_0 21 rfl rfl)
theorem dX8_stepHere_22 : decode cX8_stepHere 22 = .ok (.bipush 11, 2) := dk_16 11 (dk_at dksX8_stepHere_0 22 rfl rfl)
theorem dX8_stepHere_24 : decode cX8_stepHere 24 = .ok (.iconst 5, 1) := dk_8 (dk_at dksX8_stepHere_1 0 rfl rfl)
theorem dX8_stepHere_25 : decode cX8_stepHere 25 = .ok (.iconst 0, 1) := dk_3 (dk_at dksX8_stepHere_1 1 rfl rfl)
theorem dX8_stepHere_26 : decode cX8_stepHere 26 = .ok (.iconst 0, 1) := dk_3 (dk_at dksX8_stepHere_1 2 rfl rfl)
theorem dX8_stepHere_27 : decode cX8_stepHere 27 = .ok (.invokevirtual 155, 3) := dk_182 0 155 (dk_at dksX8_stepHere_1 3 rfl rfl)
theorem dX8_stepHere_30 : decode cX8_stepHere 30 = .ok (.ifCond .eq 5, 3) := dk_153 0 5 (dk_at dksX8_stepHere_1 6 rfl rfl)
theorem dX8_stepHere_33 : decode cX8_stepHere 33 = .ok (.iconst 1, 1) := dk_4 (dk_at dksX8_stepHere_1 9 rfl rfl)
theorem dX8_stepHere_34 : decode cX8_stepHere 34 = .ok (.ireturn, 1) := dk_172 (dk_at dksX8_stepHere_1 10 rfl rfl)
theorem dX8_stepHere_35 : decode cX8_stepHere 35 = .ok (.aload_n 0, 1) := dk_42 (dk_at dksX8_stepHere_1 11 rfl rfl)
theorem dX8_stepHere_36 : decode cX8_stepHere 36 = .ok (.bipush 12, 2) := dk_16 12 (dk_at dksX8_stepHere_1 12 rfl rfl)
theorem dX8_stepHere_38 : decode cX8_stepHere 38 = .ok (.iconst 1, 1) := dk_4 (dk_at dksX8_stepHere_1 14 rfl rfl)
theorem dX8_stepHere_39 : decode cX8_stepHere 39 = .ok (.bipush 25, 2) := dk_16 25 (dk_at dksX8_stepHere_1 15 rfl rfl)
theorem dX8_stepHere_41 : decode cX8_stepHere 41 = .ok (.iconst 0, 1) := dk_3 (dk_at dksX8_stepHere_1 17 rfl rfl)
theorem dX8_stepHere_42 : decode cX8_stepHere 42 = .ok (.iconst 0, 1) := dk_3 (dk_at dksX8_stepHere_1 18 rfl rfl)
theorem dX8_stepHere_43 : decode cX8_stepHere 43 = .ok (.iconst 0, 1) := dk_3 (dk_at dksX8_stepHere_1 19 rfl rfl)
theorem dX8_stepHere_44 : decode cX8_stepHere 44 = .ok (.invokevirtual 155, 3) := dk_182 0 155 (dk_at dksX8_stepHere_1 20 rfl rfl)
theorem dX8_stepHere_47 : decode cX8_stepHere 47 = .ok (.ifCond .eq 5, 3) := dk_153 0 5 (dk_at dksX8_stepHere_2 0 rfl rfl)
theorem dX8_stepHere_50 : decode cX8_stepHere 50 = .ok (.iconst 2, 1) := dk_5 (dk_at dksX8_stepHere_2 3 rfl rfl)
theorem dX8_stepHere_51 : decode cX8_stepHere 51 = .ok (.ireturn, 1) := dk_172 (dk_at dksX8_stepHere_2 4 rfl rfl)
theorem dX8_stepHere_52 : decode cX8_stepHere 52 = .ok (.aload_n 0, 1) := dk_42 (dk_at dksX8_stepHere_2 5 rfl rfl)
theorem dX8_stepHere_53 : decode cX8_stepHere 53 = .ok (.iconst 4, 1) := dk_7 (dk_at dksX8_stepHere_2 6 rfl rfl)
theorem dX8_stepHere_54 : decode cX8_stepHere 54 = .ok (.iconst 1, 1) := dk_4 (dk_at dksX8_stepHere_2 7 rfl rfl)
theorem dX8_stepHere_55 : decode cX8_stepHere 55 = .ok (.bipush 25, 2) := dk_16 25 (dk_at dksX8_stepHere_2 8 rfl rfl)
theorem dX8_stepHere_57 : decode cX8_stepHere 57 = .ok (.iconst 0, 1) := dk_3 (dk_at dksX8_stepHere_2 10 rfl rfl)
theorem dX8_stepHere_58 : decode cX8_stepHere 58 = .ok (.iconst 0, 1) := dk_3 (dk_at dksX8_stepHere_2 11 rfl rfl)
theorem dX8_stepHere_59 : decode cX8_stepHere 59 = .ok (.iconst 0, 1) := dk_3 (dk_at dksX8_stepHere_2 12 rfl rfl)
theorem dX8_stepHere_60 : decode cX8_stepHere 60 = .ok (.invokevirtual 155, 3) := dk_182 0 155 (dk_at dksX8_stepHere_2 13 rfl rfl)
theorem dX8_stepHere_63 : decode cX8_stepHere 63 = .ok (.ifCond .eq 5, 3) := dk_153 0 5 (dk_at dksX8_stepHere_2 16 rfl rfl)
theorem dX8_stepHere_66 : decode cX8_stepHere 66 = .ok (.iconst 3, 1) := dk_6 (dk_at dksX8_stepHere_2 19 rfl rfl)
theorem dX8_stepHere_67 : decode cX8_stepHere 67 = .ok (.ireturn, 1) := dk_172 (dk_at dksX8_stepHere_2 20 rfl rfl)
theorem dX8_stepHere_68 : decode cX8_stepHere 68 = .ok (.aload_n 0, 1) := dk_42 (dk_at dksX8_stepHere_2 21 rfl rfl)
theorem dX8_stepHere_69 : decode cX8_stepHere 69 = .ok (.iconst 1, 1) := dk_4 (dk_at dksX8_stepHere_2 22 rfl rfl)
theorem dX8_stepHere_70 : decode cX8_stepHere 70 = .ok (.bipush 7, 2) := dk_16 7 (dk_at dksX8_stepHere_3 0 rfl rfl)
theorem dX8_stepHere_72 : decode cX8_stepHere 72 = .ok (.iconst 1, 1) := dk_4 (dk_at dksX8_stepHere_3 2 rfl rfl)
theorem dX8_stepHere_73 : decode cX8_stepHere 73 = .ok (.bipush 9, 2) := dk_16 9 (dk_at dksX8_stepHere_3 3 rfl rfl)
theorem dX8_stepHere_75 : decode cX8_stepHere 75 = .ok (.bipush 14, 2) := dk_16 14 (dk_at dksX8_stepHere_3 5 rfl rfl)
theorem dX8_stepHere_77 : decode cX8_stepHere 77 = .ok (.iconst 0, 1) := dk_3 (dk_at dksX8_stepHere_3 7 rfl rfl)
theorem dX8_stepHere_78 : decode cX8_stepHere 78 = .ok (.invokevirtual 155, 3) := dk_182 0 155 (dk_at dksX8_stepHere_3 8 rfl rfl)
theorem dX8_stepHere_81 : decode cX8_stepHere 81 = .ok (.ifCond .eq 7, 3) := dk_153 0 7 (dk_at dksX8_stepHere_3 11 rfl rfl)
theorem dX8_stepHere_84 : decode cX8_stepHere 84 = .ok (.iconst 4, 1) := dk_7 (dk_at dksX8_stepHere_3 14 rfl rfl)
theorem dX8_stepHere_85 : decode cX8_stepHere 85 = .ok (.goto 4, 3) := dk_167 0 4 (dk_at dksX8_stepHere_3 15 rfl rfl)
theorem dX8_stepHere_88 : decode cX8_stepHere 88 = .ok (.iconst (-1), 1) := dk_2 (dk_at dksX8_stepHere_3 18 rfl rfl)
theorem dX8_stepHere_89 : decode cX8_stepHere 89 = .ok (.ireturn, 1) := dk_172 (dk_at dksX8_stepHere_3 19 rfl rfl)
abbrev cX8_copies : ByteArray := prog_30_method_32_code
def yX8_copies : MethodName := ⟨RX8, "copies", "([I[I)V"⟩
def dkwX8_copies_0 : List UInt8 := [3, 61, 28, 16, 100, 162, 0, 15, 43, 28, 42, 28, 46, 79, 132, 2, 1, 167, 255, 241, 177]
abbrev dktX8_copies_0 : List UInt8 := dkwX8_copies_0 ++ []
theorem dksX8_copies_0 : cX8_copies.data.toList.drop 0 = dktX8_copies_0 := by decide +kernel
theorem dX8_copies_0 : decode cX8_copies 0 = .ok (.iconst 0, 1) := dk_3 (dk_at dksX8_copies_0 0 rfl rfl)
theorem dX8_copies_1 : decode cX8_copies 1 = .ok (.istore_n 2, 1) := dk_61 (dk_at dksX8_copies_0 1 rfl rfl)
theorem dX8_copies_2 : decode cX8_copies 2 = .ok (.iload_n 2, 1) := dk_28 (dk_at dksX8_copies_0 2 rfl rfl)
theorem dX8_copies_3 : decode cX8_copies 3 = .ok (.bipush 100, 2) := dk_16 100 (dk_at dksX8_copies_0 3 rfl rfl)
theorem dX8_copies_5 : decode cX8_copies 5 = .ok (.if_icmp .ge 15, 3) := dk_162 0 15 (dk_at dksX8_copies_0 5 rfl rfl)
theorem dX8_copies_8 : decode cX8_copies 8 = .ok (.aload_n 1, 1) := dk_43 (dk_at dksX8_copies_0 8 rfl rfl)
theorem dX8_copies_9 : decode cX8_copies 9 = .ok (.iload_n 2, 1) := dk_28 (dk_at dksX8_copies_0 9 rfl rfl)
theorem dX8_copies_10 : decode cX8_copies 10 = .ok (.aload_n 0, 1) := dk_42 (dk_at dksX8_copies_0 10 rfl rfl)
theorem dX8_copies_11 : decode cX8_copies 11 = .ok (.iload_n 2, 1) := dk_28 (dk_at dksX8_copies_0 11 rfl rfl)
theorem dX8_copies_12 : decode cX8_copies 12 = .ok (.iaload, 1) := dk_46 (dk_at dksX8_copies_0 12 rfl rfl)
theorem dX8_copies_13 : decode cX8_copies 13 = .ok (.iastore, 1) := dk_79 (dk_at dksX8_copies_0 13 rfl rfl)
theorem dX8_copies_14 : decode cX8_copies 14 = .ok (.iinc 2 1, 3) := dk_132 2 1 (dk_at dksX8_copies_0 14 rfl rfl)
theorem dX8_copies_17 : decode cX8_copies 17 = .ok (.goto (-15), 3) := dk_167 255 241 (dk_at dksX8_copies_0 17 rfl rfl)
theorem dX8_copies_20 : decode cX8_copies 20 = .ok (.return_, 1) := dk_177 (dk_at dksX8_copies_0 20 rfl rfl)
abbrev cX8_goes : ByteArray := prog_30_method_58_code
def yX8_goes : MethodName := ⟨RX8, "goes", "(II)V"⟩
def dkwX8_goes_6 : List UInt8 := [181, 0, 215, 42, 180, 0, 70, 29, 50, 6, 46, 62, 167, 255, 106, 177]
abbrev dktX8_goes_6 : List UInt8 := dkwX8_goes_6 ++ []
def dkwX8_goes_5 : List UInt8 := [167, 0, 4, 3, 96, 181, 1, 60, 42, 89, 180, 0, 215, 21, 4, 153, 0, 7, 3, 167, 0, 4, 4, 96]
abbrev dktX8_goes_5 : List UInt8 := dkwX8_goes_5 ++ dktX8_goes_6
def dkwX8_goes_4 : List UInt8 := [42, 180, 0, 70, 29, 50, 182, 1, 56, 54, 4, 42, 89, 180, 1, 60, 21, 4, 153, 0, 7, 4]
abbrev dktX8_goes_4 : List UInt8 := dkwX8_goes_4 ++ dktX8_goes_5
def dkwX8_goes_3 : List UInt8 := [180, 0, 70, 29, 50, 6, 46, 182, 1, 53, 132, 4, 1, 167, 255, 215, 167, 0, 57, 42, 42, 180, 0, 73]
abbrev dktX8_goes_3 : List UInt8 := dkwX8_goes_3 ++ dktX8_goes_4
def dkwX8_goes_2 : List UInt8 := [29, 50, 4, 46, 162, 0, 34, 42, 180, 1, 50, 17, 0, 200, 162, 0, 24, 42, 29, 4, 96, 42]
abbrev dktX8_goes_2 : List UInt8 := dkwX8_goes_2 ++ dktX8_goes_3
def dkwX8_goes_1 : List UInt8 := [181, 1, 50, 42, 180, 0, 70, 29, 50, 3, 46, 7, 160, 0, 53, 3, 54, 4, 21, 4, 42, 180, 0, 70]
abbrev dktX8_goes_1 : List UInt8 := dkwX8_goes_1 ++ dktX8_goes_2
def dkwX8_goes_0 : List UInt8 := [27, 62, 29, 28, 162, 0, 151, 42, 180, 1, 50, 17, 0, 200, 162, 0, 141, 42, 89, 180, 1, 50, 4, 96]
abbrev dktX8_goes_0 : List UInt8 := dkwX8_goes_0 ++ dktX8_goes_1
theorem dksX8_goes_0 : cX8_goes.data.toList.drop 0 = dktX8_goes_0 := by decide +kernel
theorem dksX8_goes_1 : cX8_goes.data.toList.drop 24 = dktX8_goes_1 := dk_seg dksX8_goes_0 24 rfl rfl
theorem dksX8_goes_2 : cX8_goes.data.toList.drop 48 = dktX8_goes_2 := dk_seg dksX8_goes_1 24 rfl rfl
theorem dksX8_goes_3 : cX8_goes.data.toList.drop 70 = dktX8_goes_3 := dk_seg dksX8_goes_2 22 rfl rfl
theorem dksX8_goes_4 : cX8_goes.data.toList.drop 94 = dktX8_goes_4 := dk_seg dksX8_goes_3 24 rfl rfl
theorem dksX8_goes_5 : cX8_goes.data.toList.drop 116 = dktX8_goes_5 := dk_seg dksX8_goes_4 22 rfl rfl
theorem dksX8_goes_6 : cX8_goes.data.toList.drop 140 = dktX8_goes_6 := dk_seg dksX8_goes_5 24 rfl rfl
theorem dX8_goes_0 : decode cX8_goes 0 = .ok (.iload_n 1, 1) := dk_27 (dk_at dksX8_goes_0 0 rfl rfl)
theorem dX8_goes_1 : decode cX8_goes 1 = .ok (.istore_n 3, 1) := dk_62 (dk_at dksX8_goes_0 1 rfl rfl)
theorem dX8_goes_2 : decode cX8_goes 2 = .ok (.iload_n 3, 1) := dk_29 (dk_at dksX8_goes_0 2 rfl rfl)
theorem dX8_goes_3 : decode cX8_goes 3 = .ok (.iload_n 2, 1) := dk_28 (dk_at dksX8_goes_0 3 rfl rfl)
theorem dX8_goes_4 : decode cX8_goes 4 = .ok (.if_icmp .ge 151, 3) := dk_162 0 151 (dk_at dksX8_goes_0 4 rfl rfl)
theorem dX8_goes_7 : decode cX8_goes 7 = .ok (.aload_n 0, 1) := dk_42 (dk_at dksX8_goes_0 7 rfl rfl)
theorem dX8_goes_8 : decode cX8_goes 8 = .ok (.getfield 306, 3) := dk_180 1 50 (dk_at dksX8_goes_0 8 rfl rfl)
theorem dX8_goes_11 : decode cX8_goes 11 = .ok (.sipush 200, 3) := dk_17 0 200 (dk_at dksX8_goes_0 11 rfl rfl)
theorem dX8_goes_14 : decode cX8_goes 14 = .ok (.if_icmp .ge 141, 3) := dk_162 0 141 (dk_at dksX8_goes_0 14 rfl rfl)
theorem dX8_goes_17 : decode cX8_goes 17 = .ok (.aload_n 0, 1) := dk_42 (dk_at dksX8_goes_0 17 rfl rfl)
theorem dX8_goes_18 : decode cX8_goes 18 = .ok (.dup, 1) := dk_89 (dk_at dksX8_goes_0 18 rfl rfl)
theorem dX8_goes_19 : decode cX8_goes 19 = .ok (.getfield 306, 3) := dk_180 1 50 (dk_at dksX8_goes_0 19 rfl rfl)
theorem dX8_goes_22 : decode cX8_goes 22 = .ok (.iconst 1, 1) := dk_4 (dk_at dksX8_goes_0 22 rfl rfl)
theorem dX8_goes_23 : decode cX8_goes 23 = .ok (.iadd, 1) := dk_96 (dk_at dksX8_goes_0 23 rfl rfl)
theorem dX8_goes_24 : decode cX8_goes 24 = .ok (.putfield 306, 3) := dk_181 1 50 (dk_at dksX8_goes_1 0 rfl rfl)
theorem dX8_goes_27 : decode cX8_goes 27 = .ok (.aload_n 0, 1) := dk_42 (dk_at dksX8_goes_1 3 rfl rfl)
theorem dX8_goes_28 : decode cX8_goes 28 = .ok (.getfield 70, 3) := dk_180 0 70 (dk_at dksX8_goes_1 4 rfl rfl)
theorem dX8_goes_31 : decode cX8_goes 31 = .ok (.iload_n 3, 1) := dk_29 (dk_at dksX8_goes_1 7 rfl rfl)
theorem dX8_goes_32 : decode cX8_goes 32 = .ok (.aaload, 1) := dk_50 (dk_at dksX8_goes_1 8 rfl rfl)
theorem dX8_goes_33 : decode cX8_goes 33 = .ok (.iconst 0, 1) := dk_3 (dk_at dksX8_goes_1 9 rfl rfl)
theorem dX8_goes_34 : decode cX8_goes 34 = .ok (.iaload, 1) := dk_46 (dk_at dksX8_goes_1 10 rfl rfl)
theorem dX8_goes_35 : decode cX8_goes 35 = .ok (.iconst 4, 1) := dk_7 (dk_at dksX8_goes_1 11 rfl rfl)
theorem dX8_goes_36 : decode cX8_goes 36 = .ok (.if_icmp .ne 53, 3) := dk_160 0 53 (dk_at dksX8_goes_1 12 rfl rfl)
theorem dX8_goes_39 : decode cX8_goes 39 = .ok (.iconst 0, 1) := dk_3 (dk_at dksX8_goes_1 15 rfl rfl)
theorem dX8_goes_40 : decode cX8_goes 40 = .ok (.istore 4, 2) := dk_54 4 (dk_at dksX8_goes_1 16 rfl rfl)
theorem dX8_goes_42 : decode cX8_goes 42 = .ok (.iload 4, 2) := dk_21 4 (dk_at dksX8_goes_1 18 rfl rfl)
theorem dX8_goes_44 : decode cX8_goes 44 = .ok (.aload_n 0, 1) := dk_42 (dk_at dksX8_goes_1 20 rfl rfl)
theorem dX8_goes_45 : decode cX8_goes 45 = .ok (.getfield 70, 3) := dk_180 0 70 (dk_at dksX8_goes_1 21 rfl rfl)
theorem dX8_goes_48 : decode cX8_goes 48 = .ok (.iload_n 3, 1) := dk_29 (dk_at dksX8_goes_2 0 rfl rfl)
theorem dX8_goes_49 : decode cX8_goes 49 = .ok (.aaload, 1) := dk_50 (dk_at dksX8_goes_2 1 rfl rfl)
theorem dX8_goes_50 : decode cX8_goes 50 = .ok (.iconst 1, 1) := dk_4 (dk_at dksX8_goes_2 2 rfl rfl)
theorem dX8_goes_51 : decode cX8_goes 51 = .ok (.iaload, 1) := dk_46 (dk_at dksX8_goes_2 3 rfl rfl)
theorem dX8_goes_52 : decode cX8_goes 52 = .ok (.if_icmp .ge 34, 3) := dk_162 0 34 (dk_at dksX8_goes_2 4 rfl rfl)
theorem dX8_goes_55 : decode cX8_goes 55 = .ok (.aload_n 0, 1) := dk_42 (dk_at dksX8_goes_2 7 rfl rfl)
theorem dX8_goes_56 : decode cX8_goes 56 = .ok (.getfield 306, 3) := dk_180 1 50 (dk_at dksX8_goes_2 8 rfl rfl)
theorem dX8_goes_59 : decode cX8_goes 59 = .ok (.sipush 200, 3) := dk_17 0 200 (dk_at dksX8_goes_2 11 rfl rfl)
theorem dX8_goes_62 : decode cX8_goes 62 = .ok (.if_icmp .ge 24, 3) := dk_162 0 24 (dk_at dksX8_goes_2 14 rfl rfl)
theorem dX8_goes_65 : decode cX8_goes 65 = .ok (.aload_n 0, 1) := dk_42 (dk_at dksX8_goes_2 17 rfl rfl)
theorem dX8_goes_66 : decode cX8_goes 66 = .ok (.iload_n 3, 1) := dk_29 (dk_at dksX8_goes_2 18 rfl rfl)
theorem dX8_goes_67 : decode cX8_goes 67 = .ok (.iconst 1, 1) := dk_4 (dk_at dksX8_goes_2 19 rfl rfl)
theorem dX8_goes_68 : decode cX8_goes 68 = .ok (.iadd, 1) := dk_96 (dk_at dksX8_goes_2 20 rfl rfl)
theorem dX8_goes_69 : decode cX8_goes 69 = .ok (.aload_n 0, 1) := dk_42 (dk_at dksX8_goes_2 21 rfl rfl)
theorem dX8_goes_70 : decode cX8_goes 70 = .ok (.getfield 70, 3) := dk_180 0 70 (dk_at dksX8_goes_3 0 rfl rfl)
theorem dX8_goes_73 : decode cX8_goes 73 = .ok (.iload_n 3, 1) := dk_29 (dk_at dksX8_goes_3 3 rfl rfl)
theorem dX8_goes_74 : decode cX8_goes 74 = .ok (.aaload, 1) := dk_50 (dk_at dksX8_goes_3 4 rfl rfl)
theorem dX8_goes_75 : decode cX8_goes 75 = .ok (.iconst 3, 1) := dk_6 (dk_at dksX8_goes_3 5 rfl rfl)
theorem dX8_goes_76 : decode cX8_goes 76 = .ok (.iaload, 1) := dk_46 (dk_at dksX8_goes_3 6 rfl rfl)
theorem dX8_goes_77 : decode cX8_goes 77 = .ok (.invokevirtual 309, 3) := dk_182 1 53 (dk_at dksX8_goes_3 7 rfl rfl)
theorem dX8_goes_80 : decode cX8_goes 80 = .ok (.iinc 4 1, 3) := dk_132 4 1 (dk_at dksX8_goes_3 10 rfl rfl)
theorem dX8_goes_83 : decode cX8_goes 83 = .ok (.goto (-41), 3) := dk_167 255 215 (dk_at dksX8_goes_3 13 rfl rfl)
theorem dX8_goes_86 : decode cX8_goes 86 = .ok (.goto 57, 3) := dk_167 0 57 (dk_at dksX8_goes_3 16 rfl rfl)
theorem dX8_goes_89 : decode cX8_goes 89 = .ok (.aload_n 0, 1) := dk_42 (dk_at dksX8_goes_3 19 rfl rfl)
theorem dX8_goes_90 : decode cX8_goes 90 = .ok (.aload_n 0, 1) := dk_42 (dk_at dksX8_goes_3 20 rfl rfl)
theorem dX8_goes_91 : decode cX8_goes 91 = .ok (.getfield 73, 3) := dk_180 0 73 (dk_at dksX8_goes_3 21 rfl rfl)
theorem dX8_goes_94 : decode cX8_goes 94 = .ok (.aload_n 0, 1) := dk_42 (dk_at dksX8_goes_4 0 rfl rfl)
theorem dX8_goes_95 : decode cX8_goes 95 = .ok (.getfield 70, 3) := dk_180 0 70 (dk_at dksX8_goes_4 1 rfl rfl)
theorem dX8_goes_98 : decode cX8_goes 98 = .ok (.iload_n 3, 1) := dk_29 (dk_at dksX8_goes_4 4 rfl rfl)
theorem dX8_goes_99 : decode cX8_goes 99 = .ok (.aaload, 1) := dk_50 (dk_at dksX8_goes_4 5 rfl rfl)
theorem dX8_goes_100 : decode cX8_goes 100 = .ok (.invokevirtual 312, 3) := dk_182 1 56 (dk_at dksX8_goes_4 6 rfl rfl)
theorem dX8_goes_103 : decode cX8_goes 103 = .ok (.istore 4, 2) := dk_54 4 (dk_at dksX8_goes_4 9 rfl rfl)
theorem dX8_goes_105 : decode cX8_goes 105 = .ok (.aload_n 0, 1) := dk_42 (dk_at dksX8_goes_4 11 rfl rfl)
theorem dX8_goes_106 : decode cX8_goes 106 = .ok (.dup, 1) := dk_89 (dk_at dksX8_goes_4 12 rfl rfl)
theorem dX8_goes_107 : decode cX8_goes 107 = .ok (.getfield 316, 3) := dk_180 1 60 (dk_at dksX8_goes_4 13 rfl rfl)
theorem dX8_goes_110 : decode cX8_goes 110 = .ok (.iload 4, 2) := dk_21 4 (dk_at dksX8_goes_4 16 rfl rfl)
theorem dX8_goes_112 : decode cX8_goes 112 = .ok (.ifCond .eq 7, 3) := dk_153 0 7 (dk_at dksX8_goes_4 18 rfl rfl)
theorem dX8_goes_115 : decode cX8_goes 115 = .ok (.iconst 1, 1) := dk_4 (dk_at dksX8_goes_4 21 rfl rfl)
theorem dX8_goes_116 : decode cX8_goes 116 = .ok (.goto 4, 3) := dk_167 0 4 (dk_at dksX8_goes_5 0 rfl rfl)
theorem dX8_goes_119 : decode cX8_goes 119 = .ok (.iconst 0, 1) := dk_3 (dk_at dksX8_goes_5 3 rfl rfl)
theorem dX8_goes_120 : decode cX8_goes 120 = .ok (.iadd, 1) := dk_96 (dk_at dksX8_goes_5 4 rfl rfl)
theorem dX8_goes_121 : decode cX8_goes 121 = .ok (.putfield 316, 3) := dk_181 1 60 (dk_at dksX8_goes_5 5 rfl rfl)
theorem dX8_goes_124 : decode cX8_goes 124 = .ok (.aload_n 0, 1) := dk_42 (dk_at dksX8_goes_5 8 rfl rfl)
theorem dX8_goes_125 : decode cX8_goes 125 = .ok (.dup, 1) := dk_89 (dk_at dksX8_goes_5 9 rfl rfl)
theorem dX8_goes_126 : decode cX8_goes 126 = .ok (.getfield 215, 3) := dk_180 0 215 (dk_at dksX8_goes_5 10 rfl rfl)
theorem dX8_goes_129 : decode cX8_goes 129 = .ok (.iload 4, 2) := dk_21 4 (dk_at dksX8_goes_5 13 rfl rfl)
theorem dX8_goes_131 : decode cX8_goes 131 = .ok (.ifCond .eq 7, 3) := dk_153 0 7 (dk_at dksX8_goes_5 15 rfl rfl)
theorem dX8_goes_134 : decode cX8_goes 134 = .ok (.iconst 0, 1) := dk_3 (dk_at dksX8_goes_5 18 rfl rfl)
theorem dX8_goes_135 : decode cX8_goes 135 = .ok (.goto 4, 3) := dk_167 0 4 (dk_at dksX8_goes_5 19 rfl rfl)
theorem dX8_goes_138 : decode cX8_goes 138 = .ok (.iconst 1, 1) := dk_4 (dk_at dksX8_goes_5 22 rfl rfl)
theorem dX8_goes_139 : decode cX8_goes 139 = .ok (.iadd, 1) := dk_96 (dk_at dksX8_goes_5 23 rfl rfl)
theorem dX8_goes_140 : decode cX8_goes 140 = .ok (.putfield 215, 3) := dk_181 0 215 (dk_at dksX8_goes_6 0 rfl rfl)
theorem dX8_goes_143 : decode cX8_goes 143 = .ok (.aload_n 0, 1) := dk_42 (dk_at dksX8_goes_6 3 rfl rfl)
theorem dX8_goes_144 : decode cX8_goes 144 = .ok (.getfield 70, 3) := dk_180 0 70 (dk_at dksX8_goes_6 4 rfl rfl)
theorem dX8_goes_147 : decode cX8_goes 147 = .ok (.iload_n 3, 1) := dk_29 (dk_at dksX8_goes_6 7 rfl rfl)
theorem dX8_goes_148 : decode cX8_goes 148 = .ok (.aaload, 1) := dk_50 (dk_at dksX8_goes_6 8 rfl rfl)
theorem dX8_goes_149 : decode cX8_goes 149 = .ok (.iconst 3, 1) := dk_6 (dk_at dksX8_goes_6 9 rfl rfl)
theorem dX8_goes_150 : decode cX8_goes 150 = .ok (.iaload, 1) := dk_46 (dk_at dksX8_goes_6 10 rfl rfl)
theorem dX8_goes_151 : decode cX8_goes 151 = .ok (.istore_n 3, 1) := dk_62 (dk_at dksX8_goes_6 11 rfl rfl)
theorem dX8_goes_152 : decode cX8_goes 152 = .ok (.goto (-150), 3) := dk_167 255 106 (dk_at dksX8_goes_6 12 rfl rfl)
theorem dX8_goes_155 : decode cX8_goes 155 = .ok (.return_, 1) := dk_177 (dk_at dksX8_goes_6 15 rfl rfl)
abbrev cX8_does : ByteArray := prog_30_method_57_code
def yX8_does : MethodName := ⟨RX8, "does", "([I[I)Z"⟩
def dkwX8_does_6 : List UInt8 := [79, 4, 172, 43, 16, 99, 46, 17, 1, 244, 161, 0, 5, 3, 172, 42, 43, 182, 1, 46, 4, 172]
abbrev dktX8_does_6 : List UInt8 := dkwX8_does_6 ++ []
def dkwX8_does_5 : List UInt8 := [16, 98, 92, 46, 44, 5, 46, 43, 16, 86, 29, 96, 46, 100, 100, 79, 43, 16, 86, 29, 96, 44, 5, 46]
abbrev dktX8_does_5 : List UInt8 := dkwX8_does_5 ++ dktX8_does_6
def dkwX8_does_4 : List UInt8 := [159, 0, 20, 44, 5, 46, 43, 16, 86, 29, 96, 46, 100, 43, 16, 98, 46, 164, 0, 5, 3, 172, 43]
abbrev dktX8_does_4 : List UInt8 := dkwX8_does_4 ++ dktX8_does_5
def dkwX8_does_3 : List UInt8 := [16, 80, 29, 96, 2, 79, 43, 16, 92, 29, 96, 3, 79, 4, 172, 43, 16, 86, 29, 96, 46, 44, 5, 46]
abbrev dktX8_does_3 : List UInt8 := dkwX8_does_3 ++ dktX8_does_4
def dkwX8_does_2 : List UInt8 := [42, 43, 29, 44, 5, 46, 182, 1, 43, 172, 43, 16, 80, 29, 96, 46, 2, 160, 0, 5, 3, 172, 43]
abbrev dktX8_does_2 : List UInt8 := dkwX8_does_2 ++ dktX8_does_3
def dkwX8_does_1 : List UInt8 := [170, 0, 0, 0, 122, 0, 0, 0, 0, 0, 0, 0, 2, 0, 0, 0, 25, 0, 0, 0, 35, 0, 0, 0, 63]
abbrev dktX8_does_1 : List UInt8 := dkwX8_does_1 ++ dktX8_does_2
def dkwX8_does_0 : List UInt8 := [44, 4, 46, 62, 44, 3, 46]
abbrev dktX8_does_0 : List UInt8 := dkwX8_does_0 ++ dktX8_does_1
theorem dksX8_does_0 : cX8_does.data.toList.drop 0 = dktX8_does_0 := by decide +kernel
theorem dksX8_does_1 : cX8_does.data.toList.drop 7 = dktX8_does_1 := dk_seg dksX8_does_0 7 rfl rfl
theorem dksX8_does_2 : cX8_does.data.toList.drop 32 = dktX8_does_2 := dk_seg dksX8_does_1 25 rfl rfl
theorem dksX8_does_3 : cX8_does.data.toList.drop 55 = dktX8_does_3 := dk_seg dksX8_does_2 23 rfl rfl
theorem dksX8_does_4 : cX8_does.data.toList.drop 79 = dktX8_does_4 := dk_seg dksX8_does_3 24 rfl rfl
theorem dksX8_does_5 : cX8_does.data.toList.drop 102 = dktX8_does_5 := dk_seg dksX8_does_4 23 rfl rfl
theorem dksX8_does_6 : cX8_does.data.toList.drop 126 = dktX8_does_6 := dk_seg dksX8_does_5 24 rfl rfl
theorem dX8_does_0 : decode cX8_does 0 = .ok (.aload_n 2, 1) := dk_44 (dk_at dksX8_does_0 0 rfl rfl)
theorem dX8_does_1 : decode cX8_does 1 = .ok (.iconst 1, 1) := dk_4 (dk_at dksX8_does_0 1 rfl rfl)
theorem dX8_does_2 : decode cX8_does 2 = .ok (.iaload, 1) := dk_46 (dk_at dksX8_does_0 2 rfl rfl)
theorem dX8_does_3 : decode cX8_does 3 = .ok (.istore_n 3, 1) := dk_62 (dk_at dksX8_does_0 3 rfl rfl)
theorem dX8_does_4 : decode cX8_does 4 = .ok (.aload_n 2, 1) := dk_44 (dk_at dksX8_does_0 4 rfl rfl)
theorem dX8_does_5 : decode cX8_does 5 = .ok (.iconst 0, 1) := dk_3 (dk_at dksX8_does_0 5 rfl rfl)
theorem dX8_does_6 : decode cX8_does 6 = .ok (.iaload, 1) := dk_46 (dk_at dksX8_does_0 6 rfl rfl)
theorem dX8_does_7 : decode cX8_does 7 = .ok (.tableswitch 122 0 2 #[25, 35, 63], 25) := by decide +kernel
theorem dX8_does_32 : decode cX8_does 32 = .ok (.aload_n 0, 1) := dk_42 (dk_at dksX8_does_2 0 rfl rfl)
theorem dX8_does_33 : decode cX8_does 33 = .ok (.aload_n 1, 1) := dk_43 (dk_at dksX8_does_2 1 rfl rfl)
theorem dX8_does_34 : decode cX8_does 34 = .ok (.iload_n 3, 1) := dk_29 (dk_at dksX8_does_2 2 rfl rfl)
theorem dX8_does_35 : decode cX8_does 35 = .ok (.aload_n 2, 1) := dk_44 (dk_at dksX8_does_2 3 rfl rfl)
theorem dX8_does_36 : decode cX8_does 36 = .ok (.iconst 2, 1) := dk_5 (dk_at dksX8_does_2 4 rfl rfl)
theorem dX8_does_37 : decode cX8_does 37 = .ok (.iaload, 1) := dk_46 (dk_at dksX8_does_2 5 rfl rfl)
theorem dX8_does_38 : decode cX8_does 38 = .ok (.invokevirtual 299, 3) := dk_182 1 43 (dk_at dksX8_does_2 6 rfl rfl)
theorem dX8_does_41 : decode cX8_does 41 = .ok (.ireturn, 1) := dk_172 (dk_at dksX8_does_2 9 rfl rfl)
theorem dX8_does_42 : decode cX8_does 42 = .ok (.aload_n 1, 1) := dk_43 (dk_at dksX8_does_2 10 rfl rfl)
theorem dX8_does_43 : decode cX8_does 43 = .ok (.bipush 80, 2) := dk_16 80 (dk_at dksX8_does_2 11 rfl rfl)
theorem dX8_does_45 : decode cX8_does 45 = .ok (.iload_n 3, 1) := dk_29 (dk_at dksX8_does_2 13 rfl rfl)
theorem dX8_does_46 : decode cX8_does 46 = .ok (.iadd, 1) := dk_96 (dk_at dksX8_does_2 14 rfl rfl)
theorem dX8_does_47 : decode cX8_does 47 = .ok (.iaload, 1) := dk_46 (dk_at dksX8_does_2 15 rfl rfl)
theorem dX8_does_48 : decode cX8_does 48 = .ok (.iconst (-1), 1) := dk_2 (dk_at dksX8_does_2 16 rfl rfl)
theorem dX8_does_49 : decode cX8_does 49 = .ok (.if_icmp .ne 5, 3) := dk_160 0 5 (dk_at dksX8_does_2 17 rfl rfl)
theorem dX8_does_52 : decode cX8_does 52 = .ok (.iconst 0, 1) := dk_3 (dk_at dksX8_does_2 20 rfl rfl)
theorem dX8_does_53 : decode cX8_does 53 = .ok (.ireturn, 1) := dk_172 (dk_at dksX8_does_2 21 rfl rfl)
theorem dX8_does_54 : decode cX8_does 54 = .ok (.aload_n 1, 1) := dk_43 (dk_at dksX8_does_2 22 rfl rfl)
theorem dX8_does_55 : decode cX8_does 55 = .ok (.bipush 80, 2) := dk_16 80 (dk_at dksX8_does_3 0 rfl rfl)
theorem dX8_does_57 : decode cX8_does 57 = .ok (.iload_n 3, 1) := dk_29 (dk_at dksX8_does_3 2 rfl rfl)
theorem dX8_does_58 : decode cX8_does 58 = .ok (.iadd, 1) := dk_96 (dk_at dksX8_does_3 3 rfl rfl)
theorem dX8_does_59 : decode cX8_does 59 = .ok (.iconst (-1), 1) := dk_2 (dk_at dksX8_does_3 4 rfl rfl)
theorem dX8_does_60 : decode cX8_does 60 = .ok (.iastore, 1) := dk_79 (dk_at dksX8_does_3 5 rfl rfl)
theorem dX8_does_61 : decode cX8_does 61 = .ok (.aload_n 1, 1) := dk_43 (dk_at dksX8_does_3 6 rfl rfl)
theorem dX8_does_62 : decode cX8_does 62 = .ok (.bipush 92, 2) := dk_16 92 (dk_at dksX8_does_3 7 rfl rfl)
theorem dX8_does_64 : decode cX8_does 64 = .ok (.iload_n 3, 1) := dk_29 (dk_at dksX8_does_3 9 rfl rfl)
theorem dX8_does_65 : decode cX8_does 65 = .ok (.iadd, 1) := dk_96 (dk_at dksX8_does_3 10 rfl rfl)
theorem dX8_does_66 : decode cX8_does 66 = .ok (.iconst 0, 1) := dk_3 (dk_at dksX8_does_3 11 rfl rfl)
theorem dX8_does_67 : decode cX8_does 67 = .ok (.iastore, 1) := dk_79 (dk_at dksX8_does_3 12 rfl rfl)
theorem dX8_does_68 : decode cX8_does 68 = .ok (.iconst 1, 1) := dk_4 (dk_at dksX8_does_3 13 rfl rfl)
theorem dX8_does_69 : decode cX8_does 69 = .ok (.ireturn, 1) := dk_172 (dk_at dksX8_does_3 14 rfl rfl)
theorem dX8_does_70 : decode cX8_does 70 = .ok (.aload_n 1, 1) := dk_43 (dk_at dksX8_does_3 15 rfl rfl)
theorem dX8_does_71 : decode cX8_does 71 = .ok (.bipush 86, 2) := dk_16 86 (dk_at dksX8_does_3 16 rfl rfl)
theorem dX8_does_73 : decode cX8_does 73 = .ok (.iload_n 3, 1) := dk_29 (dk_at dksX8_does_3 18 rfl rfl)
theorem dX8_does_74 : decode cX8_does 74 = .ok (.iadd, 1) := dk_96 (dk_at dksX8_does_3 19 rfl rfl)
theorem dX8_does_75 : decode cX8_does 75 = .ok (.iaload, 1) := dk_46 (dk_at dksX8_does_3 20 rfl rfl)
theorem dX8_does_76 : decode cX8_does 76 = .ok (.aload_n 2, 1) := dk_44 (dk_at dksX8_does_3 21 rfl rfl)
theorem dX8_does_77 : decode cX8_does 77 = .ok (.iconst 2, 1) := dk_5 (dk_at dksX8_does_3 22 rfl rfl)
theorem dX8_does_78 : decode cX8_does 78 = .ok (.iaload, 1) := dk_46 (dk_at dksX8_does_3 23 rfl rfl)
theorem dX8_does_79 : decode cX8_does 79 = .ok (.if_icmp .eq 20, 3) := dk_159 0 20 (dk_at dksX8_does_4 0 rfl rfl)
theorem dX8_does_82 : decode cX8_does 82 = .ok (.aload_n 2, 1) := dk_44 (dk_at dksX8_does_4 3 rfl rfl)
theorem dX8_does_83 : decode cX8_does 83 = .ok (.iconst 2, 1) := dk_5 (dk_at dksX8_does_4 4 rfl rfl)
theorem dX8_does_84 : decode cX8_does 84 = .ok (.iaload, 1) := dk_46 (dk_at dksX8_does_4 5 rfl rfl)
theorem dX8_does_85 : decode cX8_does 85 = .ok (.aload_n 1, 1) := dk_43 (dk_at dksX8_does_4 6 rfl rfl)
theorem dX8_does_86 : decode cX8_does 86 = .ok (.bipush 86, 2) := dk_16 86 (dk_at dksX8_does_4 7 rfl rfl)
theorem dX8_does_88 : decode cX8_does 88 = .ok (.iload_n 3, 1) := dk_29 (dk_at dksX8_does_4 9 rfl rfl)
theorem dX8_does_89 : decode cX8_does 89 = .ok (.iadd, 1) := dk_96 (dk_at dksX8_does_4 10 rfl rfl)
theorem dX8_does_90 : decode cX8_does 90 = .ok (.iaload, 1) := dk_46 (dk_at dksX8_does_4 11 rfl rfl)
theorem dX8_does_91 : decode cX8_does 91 = .ok (.isub, 1) := dk_100 (dk_at dksX8_does_4 12 rfl rfl)
theorem dX8_does_92 : decode cX8_does 92 = .ok (.aload_n 1, 1) := dk_43 (dk_at dksX8_does_4 13 rfl rfl)
theorem dX8_does_93 : decode cX8_does 93 = .ok (.bipush 98, 2) := dk_16 98 (dk_at dksX8_does_4 14 rfl rfl)
theorem dX8_does_95 : decode cX8_does 95 = .ok (.iaload, 1) := dk_46 (dk_at dksX8_does_4 16 rfl rfl)
theorem dX8_does_96 : decode cX8_does 96 = .ok (.if_icmp .le 5, 3) := dk_164 0 5 (dk_at dksX8_does_4 17 rfl rfl)
theorem dX8_does_99 : decode cX8_does 99 = .ok (.iconst 0, 1) := dk_3 (dk_at dksX8_does_4 20 rfl rfl)
theorem dX8_does_100 : decode cX8_does 100 = .ok (.ireturn, 1) := dk_172 (dk_at dksX8_does_4 21 rfl rfl)
theorem dX8_does_101 : decode cX8_does 101 = .ok (.aload_n 1, 1) := dk_43 (dk_at dksX8_does_4 22 rfl rfl)
theorem dX8_does_102 : decode cX8_does 102 = .ok (.bipush 98, 2) := dk_16 98 (dk_at dksX8_does_5 0 rfl rfl)
theorem dX8_does_104 : decode cX8_does 104 = .ok (.dup2, 1) := dk_92 (dk_at dksX8_does_5 2 rfl rfl)
theorem dX8_does_105 : decode cX8_does 105 = .ok (.iaload, 1) := dk_46 (dk_at dksX8_does_5 3 rfl rfl)
theorem dX8_does_106 : decode cX8_does 106 = .ok (.aload_n 2, 1) := dk_44 (dk_at dksX8_does_5 4 rfl rfl)
theorem dX8_does_107 : decode cX8_does 107 = .ok (.iconst 2, 1) := dk_5 (dk_at dksX8_does_5 5 rfl rfl)
theorem dX8_does_108 : decode cX8_does 108 = .ok (.iaload, 1) := dk_46 (dk_at dksX8_does_5 6 rfl rfl)
theorem dX8_does_109 : decode cX8_does 109 = .ok (.aload_n 1, 1) := dk_43 (dk_at dksX8_does_5 7 rfl rfl)
theorem dX8_does_110 : decode cX8_does 110 = .ok (.bipush 86, 2) := dk_16 86 (dk_at dksX8_does_5 8 rfl rfl)
theorem dX8_does_112 : decode cX8_does 112 = .ok (.iload_n 3, 1) := dk_29 (dk_at dksX8_does_5 10 rfl rfl)
theorem dX8_does_113 : decode cX8_does 113 = .ok (.iadd, 1) := dk_96 (dk_at dksX8_does_5 11 rfl rfl)
theorem dX8_does_114 : decode cX8_does 114 = .ok (.iaload, 1) := dk_46 (dk_at dksX8_does_5 12 rfl rfl)
theorem dX8_does_115 : decode cX8_does 115 = .ok (.isub, 1) := dk_100 (dk_at dksX8_does_5 13 rfl rfl)
theorem dX8_does_116 : decode cX8_does 116 = .ok (.isub, 1) := dk_100 (dk_at dksX8_does_5 14 rfl rfl)
theorem dX8_does_117 : decode cX8_does 117 = .ok (.iastore, 1) := dk_79 (dk_at dksX8_does_5 15 rfl rfl)
theorem dX8_does_118 : decode cX8_does 118 = .ok (.aload_n 1, 1) := dk_43 (dk_at dksX8_does_5 16 rfl rfl)
theorem dX8_does_119 : decode cX8_does 119 = .ok (.bipush 86, 2) := dk_16 86 (dk_at dksX8_does_5 17 rfl rfl)
theorem dX8_does_121 : decode cX8_does 121 = .ok (.iload_n 3, 1) := dk_29 (dk_at dksX8_does_5 19 rfl rfl)
theorem dX8_does_122 : decode cX8_does 122 = .ok (.iadd, 1) := dk_96 (dk_at dksX8_does_5 20 rfl rfl)
theorem dX8_does_123 : decode cX8_does 123 = .ok (.aload_n 2, 1) := dk_44 (dk_at dksX8_does_5 21 rfl rfl)
theorem dX8_does_124 : decode cX8_does 124 = .ok (.iconst 2, 1) := dk_5 (dk_at dksX8_does_5 22 rfl rfl)
theorem dX8_does_125 : decode cX8_does 125 = .ok (.iaload, 1) := dk_46 (dk_at dksX8_does_5 23 rfl rfl)
theorem dX8_does_126 : decode cX8_does 126 = .ok (.iastore, 1) := dk_79 (dk_at dksX8_does_6 0 rfl rfl)
theorem dX8_does_127 : decode cX8_does 127 = .ok (.iconst 1, 1) := dk_4 (dk_at dksX8_does_6 1 rfl rfl)
theorem dX8_does_128 : decode cX8_does 128 = .ok (.ireturn, 1) := dk_172 (dk_at dksX8_does_6 2 rfl rfl)
theorem dX8_does_129 : decode cX8_does 129 = .ok (.aload_n 1, 1) := dk_43 (dk_at dksX8_does_6 3 rfl rfl)
theorem dX8_does_130 : decode cX8_does 130 = .ok (.bipush 99, 2) := dk_16 99 (dk_at dksX8_does_6 4 rfl rfl)
theorem dX8_does_132 : decode cX8_does 132 = .ok (.iaload, 1) := dk_46 (dk_at dksX8_does_6 6 rfl rfl)
theorem dX8_does_133 : decode cX8_does 133 = .ok (.sipush 500, 3) := dk_17 1 244 (dk_at dksX8_does_6 7 rfl rfl)
theorem dX8_does_136 : decode cX8_does 136 = .ok (.if_icmp .lt 5, 3) := dk_161 0 5 (dk_at dksX8_does_6 10 rfl rfl)
theorem dX8_does_139 : decode cX8_does 139 = .ok (.iconst 0, 1) := dk_3 (dk_at dksX8_does_6 13 rfl rfl)
theorem dX8_does_140 : decode cX8_does 140 = .ok (.ireturn, 1) := dk_172 (dk_at dksX8_does_6 14 rfl rfl)
theorem dX8_does_141 : decode cX8_does 141 = .ok (.aload_n 0, 1) := dk_42 (dk_at dksX8_does_6 15 rfl rfl)
theorem dX8_does_142 : decode cX8_does 142 = .ok (.aload_n 1, 1) := dk_43 (dk_at dksX8_does_6 16 rfl rfl)
theorem dX8_does_143 : decode cX8_does 143 = .ok (.invokevirtual 302, 3) := dk_182 1 46 (dk_at dksX8_does_6 17 rfl rfl)
theorem dX8_does_146 : decode cX8_does 146 = .ok (.iconst 1, 1) := dk_4 (dk_at dksX8_does_6 20 rfl rfl)
theorem dX8_does_147 : decode cX8_does 147 = .ok (.ireturn, 1) := dk_172 (dk_at dksX8_does_6 21 rfl rfl)
abbrev cX8_puts2 : ByteArray := prog_30_method_55_code
def yX8_puts2 : MethodName := ⟨RX8, "puts2", "([III)Z"⟩
def dkwX8_puts2_1 : List UInt8 := [3, 79, 4, 172]
abbrev dktX8_puts2_1 : List UInt8 := dkwX8_puts2_1 ++ []
def dkwX8_puts2_0 : List UInt8 := [42, 43, 29, 182, 1, 37, 2, 159, 0, 5, 3, 172, 43, 16, 80, 28, 96, 29, 79, 43, 16, 92, 28, 96]
abbrev dktX8_puts2_0 : List UInt8 := dkwX8_puts2_0 ++ dktX8_puts2_1
theorem dksX8_puts2_0 : cX8_puts2.data.toList.drop 0 = dktX8_puts2_0 := by decide +kernel
theorem dksX8_puts2_1 : cX8_puts2.data.toList.drop 24 = dktX8_puts2_1 := dk_seg dksX8_puts2_0 24 rfl rfl
theorem dX8_puts2_0 : decode cX8_puts2 0 = .ok (.aload_n 0, 1) := dk_42 (dk_at dksX8_puts2_0 0 rfl rfl)
theorem dX8_puts2_1 : decode cX8_puts2 1 = .ok (.aload_n 1, 1) := dk_43 (dk_at dksX8_puts2_0 1 rfl rfl)
theorem dX8_puts2_2 : decode cX8_puts2 2 = .ok (.iload_n 3, 1) := dk_29 (dk_at dksX8_puts2_0 2 rfl rfl)
theorem dX8_puts2_3 : decode cX8_puts2 3 = .ok (.invokevirtual 293, 3) := dk_182 1 37 (dk_at dksX8_puts2_0 3 rfl rfl)
theorem dX8_puts2_6 : decode cX8_puts2 6 = .ok (.iconst (-1), 1) := dk_2 (dk_at dksX8_puts2_0 6 rfl rfl)
theorem dX8_puts2_7 : decode cX8_puts2 7 = .ok (.if_icmp .eq 5, 3) := dk_159 0 5 (dk_at dksX8_puts2_0 7 rfl rfl)
theorem dX8_puts2_10 : decode cX8_puts2 10 = .ok (.iconst 0, 1) := dk_3 (dk_at dksX8_puts2_0 10 rfl rfl)
theorem dX8_puts2_11 : decode cX8_puts2 11 = .ok (.ireturn, 1) := dk_172 (dk_at dksX8_puts2_0 11 rfl rfl)
theorem dX8_puts2_12 : decode cX8_puts2 12 = .ok (.aload_n 1, 1) := dk_43 (dk_at dksX8_puts2_0 12 rfl rfl)
theorem dX8_puts2_13 : decode cX8_puts2 13 = .ok (.bipush 80, 2) := dk_16 80 (dk_at dksX8_puts2_0 13 rfl rfl)
theorem dX8_puts2_15 : decode cX8_puts2 15 = .ok (.iload_n 2, 1) := dk_28 (dk_at dksX8_puts2_0 15 rfl rfl)
theorem dX8_puts2_16 : decode cX8_puts2 16 = .ok (.iadd, 1) := dk_96 (dk_at dksX8_puts2_0 16 rfl rfl)
theorem dX8_puts2_17 : decode cX8_puts2 17 = .ok (.iload_n 3, 1) := dk_29 (dk_at dksX8_puts2_0 17 rfl rfl)
theorem dX8_puts2_18 : decode cX8_puts2 18 = .ok (.iastore, 1) := dk_79 (dk_at dksX8_puts2_0 18 rfl rfl)
theorem dX8_puts2_19 : decode cX8_puts2 19 = .ok (.aload_n 1, 1) := dk_43 (dk_at dksX8_puts2_0 19 rfl rfl)
theorem dX8_puts2_20 : decode cX8_puts2 20 = .ok (.bipush 92, 2) := dk_16 92 (dk_at dksX8_puts2_0 20 rfl rfl)
theorem dX8_puts2_22 : decode cX8_puts2 22 = .ok (.iload_n 2, 1) := dk_28 (dk_at dksX8_puts2_0 22 rfl rfl)
theorem dX8_puts2_23 : decode cX8_puts2 23 = .ok (.iadd, 1) := dk_96 (dk_at dksX8_puts2_0 23 rfl rfl)
theorem dX8_puts2_24 : decode cX8_puts2 24 = .ok (.iconst 0, 1) := dk_3 (dk_at dksX8_puts2_1 0 rfl rfl)
theorem dX8_puts2_25 : decode cX8_puts2 25 = .ok (.iastore, 1) := dk_79 (dk_at dksX8_puts2_1 1 rfl rfl)
theorem dX8_puts2_26 : decode cX8_puts2 26 = .ok (.iconst 1, 1) := dk_4 (dk_at dksX8_puts2_1 2 rfl rfl)
theorem dX8_puts2_27 : decode cX8_puts2 27 = .ok (.ireturn, 1) := dk_172 (dk_at dksX8_puts2_1 3 rfl rfl)
abbrev cX8_pianoIn : ByteArray := prog_30_method_54_code
def yX8_pianoIn : MethodName := ⟨RX8, "pianoIn", "([II)I"⟩
def dkwX8_pianoIn_1 : List UInt8 := [132, 3, 1, 167, 255, 231, 2, 172]
abbrev dktX8_pianoIn_1 : List UInt8 := dkwX8_pianoIn_1 ++ []
def dkwX8_pianoIn_0 : List UInt8 := [3, 62, 29, 42, 180, 0, 23, 5, 46, 162, 0, 21, 43, 16, 80, 29, 96, 46, 28, 160, 0, 5, 29, 172]
abbrev dktX8_pianoIn_0 : List UInt8 := dkwX8_pianoIn_0 ++ dktX8_pianoIn_1
theorem dksX8_pianoIn_0 : cX8_pianoIn.data.toList.drop 0 = dktX8_pianoIn_0 := by decide +kernel
theorem dksX8_pianoIn_1 : cX8_pianoIn.data.toList.drop 24 = dktX8_pianoIn_1 := dk_seg dksX8_pianoIn_0 24 rfl rfl
theorem dX8_pianoIn_0 : decode cX8_pianoIn 0 = .ok (.iconst 0, 1) := dk_3 (dk_at dksX8_pianoIn_0 0 rfl rfl)
theorem dX8_pianoIn_1 : decode cX8_pianoIn 1 = .ok (.istore_n 3, 1) := dk_62 (dk_at dksX8_pianoIn_0 1 rfl rfl)
theorem dX8_pianoIn_2 : decode cX8_pianoIn 2 = .ok (.iload_n 3, 1) := dk_29 (dk_at dksX8_pianoIn_0 2 rfl rfl)
theorem dX8_pianoIn_3 : decode cX8_pianoIn 3 = .ok (.aload_n 0, 1) := dk_42 (dk_at dksX8_pianoIn_0 3 rfl rfl)
theorem dX8_pianoIn_4 : decode cX8_pianoIn 4 = .ok (.getfield 23, 3) := dk_180 0 23 (dk_at dksX8_pianoIn_0 4 rfl rfl)
theorem dX8_pianoIn_7 : decode cX8_pianoIn 7 = .ok (.iconst 2, 1) := dk_5 (dk_at dksX8_pianoIn_0 7 rfl rfl)
theorem dX8_pianoIn_8 : decode cX8_pianoIn 8 = .ok (.iaload, 1) := dk_46 (dk_at dksX8_pianoIn_0 8 rfl rfl)
theorem dX8_pianoIn_9 : decode cX8_pianoIn 9 = .ok (.if_icmp .ge 21, 3) := dk_162 0 21 (dk_at dksX8_pianoIn_0 9 rfl rfl)
theorem dX8_pianoIn_12 : decode cX8_pianoIn 12 = .ok (.aload_n 1, 1) := dk_43 (dk_at dksX8_pianoIn_0 12 rfl rfl)
theorem dX8_pianoIn_13 : decode cX8_pianoIn 13 = .ok (.bipush 80, 2) := dk_16 80 (dk_at dksX8_pianoIn_0 13 rfl rfl)
theorem dX8_pianoIn_15 : decode cX8_pianoIn 15 = .ok (.iload_n 3, 1) := dk_29 (dk_at dksX8_pianoIn_0 15 rfl rfl)
theorem dX8_pianoIn_16 : decode cX8_pianoIn 16 = .ok (.iadd, 1) := dk_96 (dk_at dksX8_pianoIn_0 16 rfl rfl)
theorem dX8_pianoIn_17 : decode cX8_pianoIn 17 = .ok (.iaload, 1) := dk_46 (dk_at dksX8_pianoIn_0 17 rfl rfl)
theorem dX8_pianoIn_18 : decode cX8_pianoIn 18 = .ok (.iload_n 2, 1) := dk_28 (dk_at dksX8_pianoIn_0 18 rfl rfl)
theorem dX8_pianoIn_19 : decode cX8_pianoIn 19 = .ok (.if_icmp .ne 5, 3) := dk_160 0 5 (dk_at dksX8_pianoIn_0 19 rfl rfl)
theorem dX8_pianoIn_22 : decode cX8_pianoIn 22 = .ok (.iload_n 3, 1) := dk_29 (dk_at dksX8_pianoIn_0 22 rfl rfl)
theorem dX8_pianoIn_23 : decode cX8_pianoIn 23 = .ok (.ireturn, 1) := dk_172 (dk_at dksX8_pianoIn_0 23 rfl rfl)
theorem dX8_pianoIn_24 : decode cX8_pianoIn 24 = .ok (.iinc 3 1, 3) := dk_132 3 1 (dk_at dksX8_pianoIn_1 0 rfl rfl)
theorem dX8_pianoIn_27 : decode cX8_pianoIn 27 = .ok (.goto (-25), 3) := dk_167 255 231 (dk_at dksX8_pianoIn_1 3 rfl rfl)
theorem dX8_pianoIn_30 : decode cX8_pianoIn 30 = .ok (.iconst (-1), 1) := dk_2 (dk_at dksX8_pianoIn_1 6 rfl rfl)
theorem dX8_pianoIn_31 : decode cX8_pianoIn 31 = .ok (.ireturn, 1) := dk_172 (dk_at dksX8_pianoIn_1 7 rfl rfl)
abbrev cX8_dayEnds : ByteArray := prog_30_method_56_code
def yX8_dayEnds : MethodName := ⟨RX8, "dayEnds", "([I)V"⟩
def dkwX8_dayEnds_4 : List UInt8 := [16, 92, 28, 96, 92, 46, 4, 96, 79, 132, 2, 1, 167, 255, 181, 43, 16, 99, 92, 46, 4, 96, 79, 177]
abbrev dktX8_dayEnds_4 : List UInt8 := dkwX8_dayEnds_4 ++ []
def dkwX8_dayEnds_3 : List UInt8 := [3, 46, 96, 62, 43, 29, 16, 99, 43, 29, 46, 42, 180, 0, 79, 28, 46, 96, 184, 0, 249, 79, 43]
abbrev dktX8_dayEnds_3 : List UInt8 := dkwX8_dayEnds_3 ++ dktX8_dayEnds_4
def dkwX8_dayEnds_2 : List UInt8 := [2, 160, 0, 6, 167, 0, 52, 3, 16, 10, 43, 16, 80, 28, 96, 46, 104, 96, 42, 180, 0, 49, 28, 50]
abbrev dktX8_dayEnds_2 : List UInt8 := dkwX8_dayEnds_2 ++ dktX8_dayEnds_3
def dkwX8_dayEnds_1 : List UInt8 := [132, 2, 1, 167, 255, 231, 3, 61, 28, 42, 180, 0, 23, 5, 46, 162, 0, 71, 43, 16, 80, 28, 96, 46]
abbrev dktX8_dayEnds_1 : List UInt8 := dkwX8_dayEnds_1 ++ dktX8_dayEnds_2
def dkwX8_dayEnds_0 : List UInt8 := [3, 61, 28, 42, 180, 0, 23, 5, 46, 162, 0, 21, 42, 180, 0, 79, 28, 42, 43, 28, 182, 1, 40, 79]
abbrev dktX8_dayEnds_0 : List UInt8 := dkwX8_dayEnds_0 ++ dktX8_dayEnds_1
theorem dksX8_dayEnds_0 : cX8_dayEnds.data.toList.drop 0 = dktX8_dayEnds_0 := by decide +kernel
theorem dksX8_dayEnds_1 : cX8_dayEnds.data.toList.drop 24 = dktX8_dayEnds_1 := dk_seg dksX8_dayEnds_0 24 rfl rfl
theorem dksX8_dayEnds_2 : cX8_dayEnds.data.toList.drop 48 = dktX8_dayEnds_2 := dk_seg dksX8_dayEnds_1 24 rfl rfl
theorem dksX8_dayEnds_3 : cX8_dayEnds.data.toList.drop 72 = dktX8_dayEnds_3 := dk_seg dksX8_dayEnds_2 24 rfl rfl
theorem dksX8_dayEnds_4 : cX8_dayEnds.data.toList.drop 95 = dktX8_dayEnds_4 := dk_seg dksX8_dayEnds_3 23 rfl rfl
theorem dX8_dayEnds_0 : decode cX8_dayEnds 0 = .ok (.iconst 0, 1) := dk_3 (dk_at dksX8_dayEnds_0 0 rfl rfl)
theorem dX8_dayEnds_1 : decode cX8_dayEnds 1 = .ok (.istore_n 2, 1) := dk_61 (dk_at dksX8_dayEnds_0 1 rfl rfl)
theorem dX8_dayEnds_2 : decode cX8_dayEnds 2 = .ok (.iload_n 2, 1) := dk_28 (dk_at dksX8_dayEnds_0 2 rfl rfl)
theorem dX8_dayEnds_3 : decode cX8_dayEnds 3 = .ok (.aload_n 0, 1) := dk_42 (dk_at dksX8_dayEnds_0 3 rfl rfl)
theorem dX8_dayEnds_4 : decode cX8_dayEnds 4 = .ok (.getfield 23, 3) := dk_180 0 23 (dk_at dksX8_dayEnds_0 4 rfl rfl)
theorem dX8_dayEnds_7 : decode cX8_dayEnds 7 = .ok (.iconst 2, 1) := dk_5 (dk_at dksX8_dayEnds_0 7 rfl rfl)
theorem dX8_dayEnds_8 : decode cX8_dayEnds 8 = .ok (.iaload, 1) := dk_46 (dk_at dksX8_dayEnds_0 8 rfl rfl)
theorem dX8_dayEnds_9 : decode cX8_dayEnds 9 = .ok (.if_icmp .ge 21, 3) := dk_162 0 21 (dk_at dksX8_dayEnds_0 9 rfl rfl)
theorem dX8_dayEnds_12 : decode cX8_dayEnds 12 = .ok (.aload_n 0, 1) := dk_42 (dk_at dksX8_dayEnds_0 12 rfl rfl)
theorem dX8_dayEnds_13 : decode cX8_dayEnds 13 = .ok (.getfield 79, 3) := dk_180 0 79 (dk_at dksX8_dayEnds_0 13 rfl rfl)
theorem dX8_dayEnds_16 : decode cX8_dayEnds 16 = .ok (.iload_n 2, 1) := dk_28 (dk_at dksX8_dayEnds_0 16 rfl rfl)
theorem dX8_dayEnds_17 : decode cX8_dayEnds 17 = .ok (.aload_n 0, 1) := dk_42 (dk_at dksX8_dayEnds_0 17 rfl rfl)
theorem dX8_dayEnds_18 : decode cX8_dayEnds 18 = .ok (.aload_n 1, 1) := dk_43 (dk_at dksX8_dayEnds_0 18 rfl rfl)
theorem dX8_dayEnds_19 : decode cX8_dayEnds 19 = .ok (.iload_n 2, 1) := dk_28 (dk_at dksX8_dayEnds_0 19 rfl rfl)
theorem dX8_dayEnds_20 : decode cX8_dayEnds 20 = .ok (.invokevirtual 296, 3) := dk_182 1 40 (dk_at dksX8_dayEnds_0 20 rfl rfl)
theorem dX8_dayEnds_23 : decode cX8_dayEnds 23 = .ok (.iastore, 1) := dk_79 (dk_at dksX8_dayEnds_0 23 rfl rfl)
theorem dX8_dayEnds_24 : decode cX8_dayEnds 24 = .ok (.iinc 2 1, 3) := dk_132 2 1 (dk_at dksX8_dayEnds_1 0 rfl rfl)
theorem dX8_dayEnds_27 : decode cX8_dayEnds 27 = .ok (.goto (-25), 3) := dk_167 255 231 (dk_at dksX8_dayEnds_1 3 rfl rfl)
theorem dX8_dayEnds_30 : decode cX8_dayEnds 30 = .ok (.iconst 0, 1) := dk_3 (dk_at dksX8_dayEnds_1 6 rfl rfl)
theorem dX8_dayEnds_31 : decode cX8_dayEnds 31 = .ok (.istore_n 2, 1) := dk_61 (dk_at dksX8_dayEnds_1 7 rfl rfl)
theorem dX8_dayEnds_32 : decode cX8_dayEnds 32 = .ok (.iload_n 2, 1) := dk_28 (dk_at dksX8_dayEnds_1 8 rfl rfl)
theorem dX8_dayEnds_33 : decode cX8_dayEnds 33 = .ok (.aload_n 0, 1) := dk_42 (dk_at dksX8_dayEnds_1 9 rfl rfl)
theorem dX8_dayEnds_34 : decode cX8_dayEnds 34 = .ok (.getfield 23, 3) := dk_180 0 23 (dk_at dksX8_dayEnds_1 10 rfl rfl)
theorem dX8_dayEnds_37 : decode cX8_dayEnds 37 = .ok (.iconst 2, 1) := dk_5 (dk_at dksX8_dayEnds_1 13 rfl rfl)
theorem dX8_dayEnds_38 : decode cX8_dayEnds 38 = .ok (.iaload, 1) := dk_46 (dk_at dksX8_dayEnds_1 14 rfl rfl)
theorem dX8_dayEnds_39 : decode cX8_dayEnds 39 = .ok (.if_icmp .ge 71, 3) := dk_162 0 71 (dk_at dksX8_dayEnds_1 15 rfl rfl)
theorem dX8_dayEnds_42 : decode cX8_dayEnds 42 = .ok (.aload_n 1, 1) := dk_43 (dk_at dksX8_dayEnds_1 18 rfl rfl)
theorem dX8_dayEnds_43 : decode cX8_dayEnds 43 = .ok (.bipush 80, 2) := dk_16 80 (dk_at dksX8_dayEnds_1 19 rfl rfl)
theorem dX8_dayEnds_45 : decode cX8_dayEnds 45 = .ok (.iload_n 2, 1) := dk_28 (dk_at dksX8_dayEnds_1 21 rfl rfl)
theorem dX8_dayEnds_46 : decode cX8_dayEnds 46 = .ok (.iadd, 1) := dk_96 (dk_at dksX8_dayEnds_1 22 rfl rfl)
theorem dX8_dayEnds_47 : decode cX8_dayEnds 47 = .ok (.iaload, 1) := dk_46 (dk_at dksX8_dayEnds_1 23 rfl rfl)
theorem dX8_dayEnds_48 : decode cX8_dayEnds 48 = .ok (.iconst (-1), 1) := dk_2 (dk_at dksX8_dayEnds_2 0 rfl rfl)
theorem dX8_dayEnds_49 : decode cX8_dayEnds 49 = .ok (.if_icmp .ne 6, 3) := dk_160 0 6 (dk_at dksX8_dayEnds_2 1 rfl rfl)
theorem dX8_dayEnds_52 : decode cX8_dayEnds 52 = .ok (.goto 52, 3) := dk_167 0 52 (dk_at dksX8_dayEnds_2 4 rfl rfl)
theorem dX8_dayEnds_55 : decode cX8_dayEnds 55 = .ok (.iconst 0, 1) := dk_3 (dk_at dksX8_dayEnds_2 7 rfl rfl)
theorem dX8_dayEnds_56 : decode cX8_dayEnds 56 = .ok (.bipush 10, 2) := dk_16 10 (dk_at dksX8_dayEnds_2 8 rfl rfl)
theorem dX8_dayEnds_58 : decode cX8_dayEnds 58 = .ok (.aload_n 1, 1) := dk_43 (dk_at dksX8_dayEnds_2 10 rfl rfl)
theorem dX8_dayEnds_59 : decode cX8_dayEnds 59 = .ok (.bipush 80, 2) := dk_16 80 (dk_at dksX8_dayEnds_2 11 rfl rfl)
theorem dX8_dayEnds_61 : decode cX8_dayEnds 61 = .ok (.iload_n 2, 1) := dk_28 (dk_at dksX8_dayEnds_2 13 rfl rfl)
theorem dX8_dayEnds_62 : decode cX8_dayEnds 62 = .ok (.iadd, 1) := dk_96 (dk_at dksX8_dayEnds_2 14 rfl rfl)
theorem dX8_dayEnds_63 : decode cX8_dayEnds 63 = .ok (.iaload, 1) := dk_46 (dk_at dksX8_dayEnds_2 15 rfl rfl)
theorem dX8_dayEnds_64 : decode cX8_dayEnds 64 = .ok (.imul, 1) := dk_104 (dk_at dksX8_dayEnds_2 16 rfl rfl)
theorem dX8_dayEnds_65 : decode cX8_dayEnds 65 = .ok (.iadd, 1) := dk_96 (dk_at dksX8_dayEnds_2 17 rfl rfl)
theorem dX8_dayEnds_66 : decode cX8_dayEnds 66 = .ok (.aload_n 0, 1) := dk_42 (dk_at dksX8_dayEnds_2 18 rfl rfl)
theorem dX8_dayEnds_67 : decode cX8_dayEnds 67 = .ok (.getfield 49, 3) := dk_180 0 49 (dk_at dksX8_dayEnds_2 19 rfl rfl)
theorem dX8_dayEnds_70 : decode cX8_dayEnds 70 = .ok (.iload_n 2, 1) := dk_28 (dk_at dksX8_dayEnds_2 22 rfl rfl)
theorem dX8_dayEnds_71 : decode cX8_dayEnds 71 = .ok (.aaload, 1) := dk_50 (dk_at dksX8_dayEnds_2 23 rfl rfl)
theorem dX8_dayEnds_72 : decode cX8_dayEnds 72 = .ok (.iconst 0, 1) := dk_3 (dk_at dksX8_dayEnds_3 0 rfl rfl)
theorem dX8_dayEnds_73 : decode cX8_dayEnds 73 = .ok (.iaload, 1) := dk_46 (dk_at dksX8_dayEnds_3 1 rfl rfl)
theorem dX8_dayEnds_74 : decode cX8_dayEnds 74 = .ok (.iadd, 1) := dk_96 (dk_at dksX8_dayEnds_3 2 rfl rfl)
theorem dX8_dayEnds_75 : decode cX8_dayEnds 75 = .ok (.istore_n 3, 1) := dk_62 (dk_at dksX8_dayEnds_3 3 rfl rfl)
theorem dX8_dayEnds_76 : decode cX8_dayEnds 76 = .ok (.aload_n 1, 1) := dk_43 (dk_at dksX8_dayEnds_3 4 rfl rfl)
theorem dX8_dayEnds_77 : decode cX8_dayEnds 77 = .ok (.iload_n 3, 1) := dk_29 (dk_at dksX8_dayEnds_3 5 rfl rfl)
theorem dX8_dayEnds_78 : decode cX8_dayEnds 78 = .ok (.bipush 99, 2) := dk_16 99 (dk_at dksX8_dayEnds_3 6 rfl rfl)
theorem dX8_dayEnds_80 : decode cX8_dayEnds 80 = .ok (.aload_n 1, 1) := dk_43 (dk_at dksX8_dayEnds_3 8 rfl rfl)
theorem dX8_dayEnds_81 : decode cX8_dayEnds 81 = .ok (.iload_n 3, 1) := dk_29 (dk_at dksX8_dayEnds_3 9 rfl rfl)
theorem dX8_dayEnds_82 : decode cX8_dayEnds 82 = .ok (.iaload, 1) := dk_46 (dk_at dksX8_dayEnds_3 10 rfl rfl)
theorem dX8_dayEnds_83 : decode cX8_dayEnds 83 = .ok (.aload_n 0, 1) := dk_42 (dk_at dksX8_dayEnds_3 11 rfl rfl)
theorem dX8_dayEnds_84 : decode cX8_dayEnds 84 = .ok (.getfield 79, 3) := dk_180 0 79 (dk_at dksX8_dayEnds_3 12 rfl rfl)
theorem dX8_dayEnds_87 : decode cX8_dayEnds 87 = .ok (.iload_n 2, 1) := dk_28 (dk_at dksX8_dayEnds_3 15 rfl rfl)
theorem dX8_dayEnds_88 : decode cX8_dayEnds 88 = .ok (.iaload, 1) := dk_46 (dk_at dksX8_dayEnds_3 16 rfl rfl)
theorem dX8_dayEnds_89 : decode cX8_dayEnds 89 = .ok (.iadd, 1) := dk_96 (dk_at dksX8_dayEnds_3 17 rfl rfl)
theorem dX8_dayEnds_90 : decode cX8_dayEnds 90 = .ok (.invokestatic 249, 3) := dk_184 0 249 (dk_at dksX8_dayEnds_3 18 rfl rfl)
theorem dX8_dayEnds_93 : decode cX8_dayEnds 93 = .ok (.iastore, 1) := dk_79 (dk_at dksX8_dayEnds_3 21 rfl rfl)
theorem dX8_dayEnds_94 : decode cX8_dayEnds 94 = .ok (.aload_n 1, 1) := dk_43 (dk_at dksX8_dayEnds_3 22 rfl rfl)
theorem dX8_dayEnds_95 : decode cX8_dayEnds 95 = .ok (.bipush 92, 2) := dk_16 92 (dk_at dksX8_dayEnds_4 0 rfl rfl)
theorem dX8_dayEnds_97 : decode cX8_dayEnds 97 = .ok (.iload_n 2, 1) := dk_28 (dk_at dksX8_dayEnds_4 2 rfl rfl)
theorem dX8_dayEnds_98 : decode cX8_dayEnds 98 = .ok (.iadd, 1) := dk_96 (dk_at dksX8_dayEnds_4 3 rfl rfl)
theorem dX8_dayEnds_99 : decode cX8_dayEnds 99 = .ok (.dup2, 1) := dk_92 (dk_at dksX8_dayEnds_4 4 rfl rfl)
theorem dX8_dayEnds_100 : decode cX8_dayEnds 100 = .ok (.iaload, 1) := dk_46 (dk_at dksX8_dayEnds_4 5 rfl rfl)
theorem dX8_dayEnds_101 : decode cX8_dayEnds 101 = .ok (.iconst 1, 1) := dk_4 (dk_at dksX8_dayEnds_4 6 rfl rfl)
theorem dX8_dayEnds_102 : decode cX8_dayEnds 102 = .ok (.iadd, 1) := dk_96 (dk_at dksX8_dayEnds_4 7 rfl rfl)
theorem dX8_dayEnds_103 : decode cX8_dayEnds 103 = .ok (.iastore, 1) := dk_79 (dk_at dksX8_dayEnds_4 8 rfl rfl)
theorem dX8_dayEnds_104 : decode cX8_dayEnds 104 = .ok (.iinc 2 1, 3) := dk_132 2 1 (dk_at dksX8_dayEnds_4 9 rfl rfl)
theorem dX8_dayEnds_107 : decode cX8_dayEnds 107 = .ok (.goto (-75), 3) := dk_167 255 181 (dk_at dksX8_dayEnds_4 12 rfl rfl)
theorem dX8_dayEnds_110 : decode cX8_dayEnds 110 = .ok (.aload_n 1, 1) := dk_43 (dk_at dksX8_dayEnds_4 15 rfl rfl)
theorem dX8_dayEnds_111 : decode cX8_dayEnds 111 = .ok (.bipush 99, 2) := dk_16 99 (dk_at dksX8_dayEnds_4 16 rfl rfl)
theorem dX8_dayEnds_113 : decode cX8_dayEnds 113 = .ok (.dup2, 1) := dk_92 (dk_at dksX8_dayEnds_4 18 rfl rfl)
theorem dX8_dayEnds_114 : decode cX8_dayEnds 114 = .ok (.iaload, 1) := dk_46 (dk_at dksX8_dayEnds_4 19 rfl rfl)
theorem dX8_dayEnds_115 : decode cX8_dayEnds 115 = .ok (.iconst 1, 1) := dk_4 (dk_at dksX8_dayEnds_4 20 rfl rfl)
theorem dX8_dayEnds_116 : decode cX8_dayEnds 116 = .ok (.iadd, 1) := dk_96 (dk_at dksX8_dayEnds_4 21 rfl rfl)
theorem dX8_dayEnds_117 : decode cX8_dayEnds 117 = .ok (.iastore, 1) := dk_79 (dk_at dksX8_dayEnds_4 22 rfl rfl)
theorem dX8_dayEnds_118 : decode cX8_dayEnds 118 = .ok (.return_, 1) := dk_177 (dk_at dksX8_dayEnds_4 23 rfl rfl)
abbrev cX8_brings : ByteArray := prog_30_method_53_code
def yX8_brings : MethodName := ⟨RX8, "brings", "([II)I"⟩
def dkwX8_brings_2 : List UInt8 := [132, 4, 1, 167, 255, 217, 3, 29, 184, 0, 252, 172]
abbrev dktX8_brings_2 : List UInt8 := dkwX8_brings_2 ++ []
def dkwX8_brings_1 : List UInt8 := [28, 21, 4, 182, 1, 34, 153, 0, 13, 42, 43, 21, 4, 182, 1, 30, 167, 0, 4, 3, 100, 62]
abbrev dktX8_brings_1 : List UInt8 := dkwX8_brings_1 ++ dktX8_brings_2
def dkwX8_brings_0 : List UInt8 := [42, 43, 28, 182, 1, 30, 62, 3, 54, 4, 21, 4, 42, 180, 0, 23, 5, 46, 162, 0, 34, 29, 42, 43]
abbrev dktX8_brings_0 : List UInt8 := dkwX8_brings_0 ++ dktX8_brings_1
theorem dksX8_brings_0 : cX8_brings.data.toList.drop 0 = dktX8_brings_0 := by decide +kernel
theorem dksX8_brings_1 : cX8_brings.data.toList.drop 24 = dktX8_brings_1 := dk_seg dksX8_brings_0 24 rfl rfl
theorem dksX8_brings_2 : cX8_brings.data.toList.drop 46 = dktX8_brings_2 := dk_seg dksX8_brings_1 22 rfl rfl
theorem dX8_brings_0 : decode cX8_brings 0 = .ok (.aload_n 0, 1) := dk_42 (dk_at dksX8_brings_0 0 rfl rfl)
theorem dX8_brings_1 : decode cX8_brings 1 = .ok (.aload_n 1, 1) := dk_43 (dk_at dksX8_brings_0 1 rfl rfl)
theorem dX8_brings_2 : decode cX8_brings 2 = .ok (.iload_n 2, 1) := dk_28 (dk_at dksX8_brings_0 2 rfl rfl)
theorem dX8_brings_3 : decode cX8_brings 3 = .ok (.invokevirtual 286, 3) := dk_182 1 30 (dk_at dksX8_brings_0 3 rfl rfl)
theorem dX8_brings_6 : decode cX8_brings 6 = .ok (.istore_n 3, 1) := dk_62 (dk_at dksX8_brings_0 6 rfl rfl)
theorem dX8_brings_7 : decode cX8_brings 7 = .ok (.iconst 0, 1) := dk_3 (dk_at dksX8_brings_0 7 rfl rfl)
theorem dX8_brings_8 : decode cX8_brings 8 = .ok (.istore 4, 2) := dk_54 4 (dk_at dksX8_brings_0 8 rfl rfl)
theorem dX8_brings_10 : decode cX8_brings 10 = .ok (.iload 4, 2) := dk_21 4 (dk_at dksX8_brings_0 10 rfl rfl)
theorem dX8_brings_12 : decode cX8_brings 12 = .ok (.aload_n 0, 1) := dk_42 (dk_at dksX8_brings_0 12 rfl rfl)
theorem dX8_brings_13 : decode cX8_brings 13 = .ok (.getfield 23, 3) := dk_180 0 23 (dk_at dksX8_brings_0 13 rfl rfl)
theorem dX8_brings_16 : decode cX8_brings 16 = .ok (.iconst 2, 1) := dk_5 (dk_at dksX8_brings_0 16 rfl rfl)
theorem dX8_brings_17 : decode cX8_brings 17 = .ok (.iaload, 1) := dk_46 (dk_at dksX8_brings_0 17 rfl rfl)
theorem dX8_brings_18 : decode cX8_brings 18 = .ok (.if_icmp .ge 34, 3) := dk_162 0 34 (dk_at dksX8_brings_0 18 rfl rfl)
theorem dX8_brings_21 : decode cX8_brings 21 = .ok (.iload_n 3, 1) := dk_29 (dk_at dksX8_brings_0 21 rfl rfl)
theorem dX8_brings_22 : decode cX8_brings 22 = .ok (.aload_n 0, 1) := dk_42 (dk_at dksX8_brings_0 22 rfl rfl)
theorem dX8_brings_23 : decode cX8_brings 23 = .ok (.aload_n 1, 1) := dk_43 (dk_at dksX8_brings_0 23 rfl rfl)
theorem dX8_brings_24 : decode cX8_brings 24 = .ok (.iload_n 2, 1) := dk_28 (dk_at dksX8_brings_1 0 rfl rfl)
theorem dX8_brings_25 : decode cX8_brings 25 = .ok (.iload 4, 2) := dk_21 4 (dk_at dksX8_brings_1 1 rfl rfl)
theorem dX8_brings_27 : decode cX8_brings 27 = .ok (.invokevirtual 290, 3) := dk_182 1 34 (dk_at dksX8_brings_1 3 rfl rfl)
theorem dX8_brings_30 : decode cX8_brings 30 = .ok (.ifCond .eq 13, 3) := dk_153 0 13 (dk_at dksX8_brings_1 6 rfl rfl)
theorem dX8_brings_33 : decode cX8_brings 33 = .ok (.aload_n 0, 1) := dk_42 (dk_at dksX8_brings_1 9 rfl rfl)
theorem dX8_brings_34 : decode cX8_brings 34 = .ok (.aload_n 1, 1) := dk_43 (dk_at dksX8_brings_1 10 rfl rfl)
theorem dX8_brings_35 : decode cX8_brings 35 = .ok (.iload 4, 2) := dk_21 4 (dk_at dksX8_brings_1 11 rfl rfl)
theorem dX8_brings_37 : decode cX8_brings 37 = .ok (.invokevirtual 286, 3) := dk_182 1 30 (dk_at dksX8_brings_1 13 rfl rfl)
theorem dX8_brings_40 : decode cX8_brings 40 = .ok (.goto 4, 3) := dk_167 0 4 (dk_at dksX8_brings_1 16 rfl rfl)
theorem dX8_brings_43 : decode cX8_brings 43 = .ok (.iconst 0, 1) := dk_3 (dk_at dksX8_brings_1 19 rfl rfl)
theorem dX8_brings_44 : decode cX8_brings 44 = .ok (.isub, 1) := dk_100 (dk_at dksX8_brings_1 20 rfl rfl)
theorem dX8_brings_45 : decode cX8_brings 45 = .ok (.istore_n 3, 1) := dk_62 (dk_at dksX8_brings_1 21 rfl rfl)
theorem dX8_brings_46 : decode cX8_brings 46 = .ok (.iinc 4 1, 3) := dk_132 4 1 (dk_at dksX8_brings_2 0 rfl rfl)
theorem dX8_brings_49 : decode cX8_brings 49 = .ok (.goto (-39), 3) := dk_167 255 217 (dk_at dksX8_brings_2 3 rfl rfl)
theorem dX8_brings_52 : decode cX8_brings 52 = .ok (.iconst 0, 1) := dk_3 (dk_at dksX8_brings_2 6 rfl rfl)
theorem dX8_brings_53 : decode cX8_brings 53 = .ok (.iload_n 3, 1) := dk_29 (dk_at dksX8_brings_2 7 rfl rfl)
theorem dX8_brings_54 : decode cX8_brings 54 = .ok (.invokestatic 252, 3) := dk_184 0 252 (dk_at dksX8_brings_2 8 rfl rfl)
theorem dX8_brings_57 : decode cX8_brings 57 = .ok (.ireturn, 1) := dk_172 (dk_at dksX8_brings_2 11 rfl rfl)
abbrev cX8_forceOf : ByteArray := prog_30_method_52_code
def yX8_forceOf : MethodName := ⟨RX8, "forceOf", "([II)I"⟩
def dkwX8_forceOf_0 : List UInt8 := [42, 43, 28, 43, 16, 86, 28, 96, 46, 182, 1, 26, 172]
abbrev dktX8_forceOf_0 : List UInt8 := dkwX8_forceOf_0 ++ []
theorem dksX8_forceOf_0 : cX8_forceOf.data.toList.drop 0 = dktX8_forceOf_0 := by decide +kernel
theorem dX8_forceOf_0 : decode cX8_forceOf 0 = .ok (.aload_n 0, 1) := dk_42 (dk_at dksX8_forceOf_0 0 rfl rfl)
theorem dX8_forceOf_1 : decode cX8_forceOf 1 = .ok (.aload_n 1, 1) := dk_43 (dk_at dksX8_forceOf_0 1 rfl rfl)
theorem dX8_forceOf_2 : decode cX8_forceOf 2 = .ok (.iload_n 2, 1) := dk_28 (dk_at dksX8_forceOf_0 2 rfl rfl)
theorem dX8_forceOf_3 : decode cX8_forceOf 3 = .ok (.aload_n 1, 1) := dk_43 (dk_at dksX8_forceOf_0 3 rfl rfl)
theorem dX8_forceOf_4 : decode cX8_forceOf 4 = .ok (.bipush 86, 2) := dk_16 86 (dk_at dksX8_forceOf_0 4 rfl rfl)
theorem dX8_forceOf_6 : decode cX8_forceOf 6 = .ok (.iload_n 2, 1) := dk_28 (dk_at dksX8_forceOf_0 6 rfl rfl)
theorem dX8_forceOf_7 : decode cX8_forceOf 7 = .ok (.iadd, 1) := dk_96 (dk_at dksX8_forceOf_0 7 rfl rfl)
theorem dX8_forceOf_8 : decode cX8_forceOf 8 = .ok (.iaload, 1) := dk_46 (dk_at dksX8_forceOf_0 8 rfl rfl)
theorem dX8_forceOf_9 : decode cX8_forceOf 9 = .ok (.invokevirtual 282, 3) := dk_182 1 26 (dk_at dksX8_forceOf_0 9 rfl rfl)
theorem dX8_forceOf_12 : decode cX8_forceOf 12 = .ok (.ireturn, 1) := dk_172 (dk_at dksX8_forceOf_0 12 rfl rfl)
abbrev cX8_forceWith : ByteArray := prog_30_method_51_code
def yX8_forceWith : MethodName := ⟨RX8, "forceWith", "([III)I"⟩
def dkwX8_forceWith_4 : List UInt8 := [180, 0, 49, 28, 50, 3, 46, 21, 5, 21, 4, 43, 16, 99, 46, 182, 1, 22, 172]
abbrev dktX8_forceWith_4 : List UInt8 := dkwX8_forceWith_4 ++ []
def dkwX8_forceWith_3 : List UInt8 := [16, 92, 28, 96, 46, 43, 3, 16, 10, 21, 4, 104, 96, 42, 180, 0, 49, 28, 50, 3, 46, 96, 46, 42]
abbrev dktX8_forceWith_3 : List UInt8 := dkwX8_forceWith_3 ++ dktX8_forceWith_4
def dkwX8_forceWith_2 : List UInt8 := [167, 0, 4, 3, 96, 54, 5, 132, 6, 1, 167, 255, 221, 42, 42, 180, 0, 49, 28, 50, 4, 46, 29, 43]
abbrev dktX8_forceWith_2 : List UInt8 := dkwX8_forceWith_2 ++ dktX8_forceWith_3
def dkwX8_forceWith_1 : List UInt8 := [42, 180, 0, 23, 5, 46, 162, 0, 30, 21, 5, 42, 43, 28, 21, 6, 182, 1, 15, 153, 0, 7, 4]
abbrev dktX8_forceWith_1 : List UInt8 := dkwX8_forceWith_1 ++ dktX8_forceWith_2
def dkwX8_forceWith_0 : List UInt8 := [43, 16, 80, 28, 96, 46, 54, 4, 3, 54, 5, 21, 4, 2, 160, 0, 5, 3, 172, 3, 54, 6, 21, 6]
abbrev dktX8_forceWith_0 : List UInt8 := dkwX8_forceWith_0 ++ dktX8_forceWith_1
theorem dksX8_forceWith_0 : cX8_forceWith.data.toList.drop 0 = dktX8_forceWith_0 := by decide +kernel
theorem dksX8_forceWith_1 : cX8_forceWith.data.toList.drop 24 = dktX8_forceWith_1 := dk_seg dksX8_forceWith_0 24 rfl rfl
theorem dksX8_forceWith_2 : cX8_forceWith.data.toList.drop 47 = dktX8_forceWith_2 := dk_seg dksX8_forceWith_1 23 rfl rfl
theorem dksX8_forceWith_3 : cX8_forceWith.data.toList.drop 71 = dktX8_forceWith_3 := dk_seg dksX8_forceWith_2 24 rfl rfl
theorem dksX8_forceWith_4 : cX8_forceWith.data.toList.drop 95 = dktX8_forceWith_4 := dk_seg dksX8_forceWith_3 24 rfl rfl
theorem dX8_forceWith_0 : decode cX8_forceWith 0 = .ok (.aload_n 1, 1) := dk_43 (dk_at dksX8_forceWith_0 0 rfl rfl)
theorem dX8_forceWith_1 : decode cX8_forceWith 1 = .ok (.bipush 80, 2) := dk_16 80 (dk_at dksX8_forceWith_0 1 rfl rfl)
theorem dX8_forceWith_3 : decode cX8_forceWith 3 = .ok (.iload_n 2, 1) := dk_28 (dk_at dksX8_forceWith_0 3 rfl rfl)
theorem dX8_forceWith_4 : decode cX8_forceWith 4 = .ok (.iadd, 1) := dk_96 (dk_at dksX8_forceWith_0 4 rfl rfl)
theorem dX8_forceWith_5 : decode cX8_forceWith 5 = .ok (.iaload, 1) := dk_46 (dk_at dksX8_forceWith_0 5 rfl rfl)
theorem dX8_forceWith_6 : decode cX8_forceWith 6 = .ok (.istore 4, 2) := dk_54 4 (dk_at dksX8_forceWith_0 6 rfl rfl)
theorem dX8_forceWith_8 : decode cX8_forceWith 8 = .ok (.iconst 0, 1) := dk_3 (dk_at dksX8_forceWith_0 8 rfl rfl)
theorem dX8_forceWith_9 : decode cX8_forceWith 9 = .ok (.istore 5, 2) := dk_54 5 (dk_at dksX8_forceWith_0 9 rfl rfl)
theorem dX8_forceWith_11 : decode cX8_forceWith 11 = .ok (.iload 4, 2) := dk_21 4 (dk_at dksX8_forceWith_0 11 rfl rfl)
theorem dX8_forceWith_13 : decode cX8_forceWith 13 = .ok (.iconst (-1), 1) := dk_2 (dk_at dksX8_forceWith_0 13 rfl rfl)
theorem dX8_forceWith_14 : decode cX8_forceWith 14 = .ok (.if_icmp .ne 5, 3) := dk_160 0 5 (dk_at dksX8_forceWith_0 14 rfl rfl)
theorem dX8_forceWith_17 : decode cX8_forceWith 17 = .ok (.iconst 0, 1) := dk_3 (dk_at dksX8_forceWith_0 17 rfl rfl)
theorem dX8_forceWith_18 : decode cX8_forceWith 18 = .ok (.ireturn, 1) := dk_172 (dk_at dksX8_forceWith_0 18 rfl rfl)
theorem dX8_forceWith_19 : decode cX8_forceWith 19 = .ok (.iconst 0, 1) := dk_3 (dk_at dksX8_forceWith_0 19 rfl rfl)
theorem dX8_forceWith_20 : decode cX8_forceWith 20 = .ok (.istore 6, 2) := dk_54 6 (dk_at dksX8_forceWith_0 20 rfl rfl)
theorem dX8_forceWith_22 : decode cX8_forceWith 22 = .ok (.iload 6, 2) := dk_21 6 (dk_at dksX8_forceWith_0 22 rfl rfl)
theorem dX8_forceWith_24 : decode cX8_forceWith 24 = .ok (.aload_n 0, 1) := dk_42 (dk_at dksX8_forceWith_1 0 rfl rfl)
theorem dX8_forceWith_25 : decode cX8_forceWith 25 = .ok (.getfield 23, 3) := dk_180 0 23 (dk_at dksX8_forceWith_1 1 rfl rfl)
theorem dX8_forceWith_28 : decode cX8_forceWith 28 = .ok (.iconst 2, 1) := dk_5 (dk_at dksX8_forceWith_1 4 rfl rfl)
theorem dX8_forceWith_29 : decode cX8_forceWith 29 = .ok (.iaload, 1) := dk_46 (dk_at dksX8_forceWith_1 5 rfl rfl)
theorem dX8_forceWith_30 : decode cX8_forceWith 30 = .ok (.if_icmp .ge 30, 3) := dk_162 0 30 (dk_at dksX8_forceWith_1 6 rfl rfl)
theorem dX8_forceWith_33 : decode cX8_forceWith 33 = .ok (.iload 5, 2) := dk_21 5 (dk_at dksX8_forceWith_1 9 rfl rfl)
theorem dX8_forceWith_35 : decode cX8_forceWith 35 = .ok (.aload_n 0, 1) := dk_42 (dk_at dksX8_forceWith_1 11 rfl rfl)
theorem dX8_forceWith_36 : decode cX8_forceWith 36 = .ok (.aload_n 1, 1) := dk_43 (dk_at dksX8_forceWith_1 12 rfl rfl)
theorem dX8_forceWith_37 : decode cX8_forceWith 37 = .ok (.iload_n 2, 1) := dk_28 (dk_at dksX8_forceWith_1 13 rfl rfl)
theorem dX8_forceWith_38 : decode cX8_forceWith 38 = .ok (.iload 6, 2) := dk_21 6 (dk_at dksX8_forceWith_1 14 rfl rfl)
theorem dX8_forceWith_40 : decode cX8_forceWith 40 = .ok (.invokevirtual 271, 3) := dk_182 1 15 (dk_at dksX8_forceWith_1 16 rfl rfl)
theorem dX8_forceWith_43 : decode cX8_forceWith 43 = .ok (.ifCond .eq 7, 3) := dk_153 0 7 (dk_at dksX8_forceWith_1 19 rfl rfl)
theorem dX8_forceWith_46 : decode cX8_forceWith 46 = .ok (.iconst 1, 1) := dk_4 (dk_at dksX8_forceWith_1 22 rfl rfl)
theorem dX8_forceWith_47 : decode cX8_forceWith 47 = .ok (.goto 4, 3) := dk_167 0 4 (dk_at dksX8_forceWith_2 0 rfl rfl)
theorem dX8_forceWith_50 : decode cX8_forceWith 50 = .ok (.iconst 0, 1) := dk_3 (dk_at dksX8_forceWith_2 3 rfl rfl)
theorem dX8_forceWith_51 : decode cX8_forceWith 51 = .ok (.iadd, 1) := dk_96 (dk_at dksX8_forceWith_2 4 rfl rfl)
theorem dX8_forceWith_52 : decode cX8_forceWith 52 = .ok (.istore 5, 2) := dk_54 5 (dk_at dksX8_forceWith_2 5 rfl rfl)
theorem dX8_forceWith_54 : decode cX8_forceWith 54 = .ok (.iinc 6 1, 3) := dk_132 6 1 (dk_at dksX8_forceWith_2 7 rfl rfl)
theorem dX8_forceWith_57 : decode cX8_forceWith 57 = .ok (.goto (-35), 3) := dk_167 255 221 (dk_at dksX8_forceWith_2 10 rfl rfl)
theorem dX8_forceWith_60 : decode cX8_forceWith 60 = .ok (.aload_n 0, 1) := dk_42 (dk_at dksX8_forceWith_2 13 rfl rfl)
theorem dX8_forceWith_61 : decode cX8_forceWith 61 = .ok (.aload_n 0, 1) := dk_42 (dk_at dksX8_forceWith_2 14 rfl rfl)
theorem dX8_forceWith_62 : decode cX8_forceWith 62 = .ok (.getfield 49, 3) := dk_180 0 49 (dk_at dksX8_forceWith_2 15 rfl rfl)
theorem dX8_forceWith_65 : decode cX8_forceWith 65 = .ok (.iload_n 2, 1) := dk_28 (dk_at dksX8_forceWith_2 18 rfl rfl)
theorem dX8_forceWith_66 : decode cX8_forceWith 66 = .ok (.aaload, 1) := dk_50 (dk_at dksX8_forceWith_2 19 rfl rfl)
theorem dX8_forceWith_67 : decode cX8_forceWith 67 = .ok (.iconst 1, 1) := dk_4 (dk_at dksX8_forceWith_2 20 rfl rfl)
theorem dX8_forceWith_68 : decode cX8_forceWith 68 = .ok (.iaload, 1) := dk_46 (dk_at dksX8_forceWith_2 21 rfl rfl)
theorem dX8_forceWith_69 : decode cX8_forceWith 69 = .ok (.iload_n 3, 1) := dk_29 (dk_at dksX8_forceWith_2 22 rfl rfl)
theorem dX8_forceWith_70 : decode cX8_forceWith 70 = .ok (.aload_n 1, 1) := dk_43 (dk_at dksX8_forceWith_2 23 rfl rfl)
theorem dX8_forceWith_71 : decode cX8_forceWith 71 = .ok (.bipush 92, 2) := dk_16 92 (dk_at dksX8_forceWith_3 0 rfl rfl)
theorem dX8_forceWith_73 : decode cX8_forceWith 73 = .ok (.iload_n 2, 1) := dk_28 (dk_at dksX8_forceWith_3 2 rfl rfl)
theorem dX8_forceWith_74 : decode cX8_forceWith 74 = .ok (.iadd, 1) := dk_96 (dk_at dksX8_forceWith_3 3 rfl rfl)
theorem dX8_forceWith_75 : decode cX8_forceWith 75 = .ok (.iaload, 1) := dk_46 (dk_at dksX8_forceWith_3 4 rfl rfl)
theorem dX8_forceWith_76 : decode cX8_forceWith 76 = .ok (.aload_n 1, 1) := dk_43 (dk_at dksX8_forceWith_3 5 rfl rfl)
theorem dX8_forceWith_77 : decode cX8_forceWith 77 = .ok (.iconst 0, 1) := dk_3 (dk_at dksX8_forceWith_3 6 rfl rfl)
theorem dX8_forceWith_78 : decode cX8_forceWith 78 = .ok (.bipush 10, 2) := dk_16 10 (dk_at dksX8_forceWith_3 7 rfl rfl)
theorem dX8_forceWith_80 : decode cX8_forceWith 80 = .ok (.iload 4, 2) := dk_21 4 (dk_at dksX8_forceWith_3 9 rfl rfl)
theorem dX8_forceWith_82 : decode cX8_forceWith 82 = .ok (.imul, 1) := dk_104 (dk_at dksX8_forceWith_3 11 rfl rfl)
theorem dX8_forceWith_83 : decode cX8_forceWith 83 = .ok (.iadd, 1) := dk_96 (dk_at dksX8_forceWith_3 12 rfl rfl)
theorem dX8_forceWith_84 : decode cX8_forceWith 84 = .ok (.aload_n 0, 1) := dk_42 (dk_at dksX8_forceWith_3 13 rfl rfl)
theorem dX8_forceWith_85 : decode cX8_forceWith 85 = .ok (.getfield 49, 3) := dk_180 0 49 (dk_at dksX8_forceWith_3 14 rfl rfl)
theorem dX8_forceWith_88 : decode cX8_forceWith 88 = .ok (.iload_n 2, 1) := dk_28 (dk_at dksX8_forceWith_3 17 rfl rfl)
theorem dX8_forceWith_89 : decode cX8_forceWith 89 = .ok (.aaload, 1) := dk_50 (dk_at dksX8_forceWith_3 18 rfl rfl)
theorem dX8_forceWith_90 : decode cX8_forceWith 90 = .ok (.iconst 0, 1) := dk_3 (dk_at dksX8_forceWith_3 19 rfl rfl)
theorem dX8_forceWith_91 : decode cX8_forceWith 91 = .ok (.iaload, 1) := dk_46 (dk_at dksX8_forceWith_3 20 rfl rfl)
theorem dX8_forceWith_92 : decode cX8_forceWith 92 = .ok (.iadd, 1) := dk_96 (dk_at dksX8_forceWith_3 21 rfl rfl)
theorem dX8_forceWith_93 : decode cX8_forceWith 93 = .ok (.iaload, 1) := dk_46 (dk_at dksX8_forceWith_3 22 rfl rfl)
theorem dX8_forceWith_94 : decode cX8_forceWith 94 = .ok (.aload_n 0, 1) := dk_42 (dk_at dksX8_forceWith_3 23 rfl rfl)
theorem dX8_forceWith_95 : decode cX8_forceWith 95 = .ok (.getfield 49, 3) := dk_180 0 49 (dk_at dksX8_forceWith_4 0 rfl rfl)
theorem dX8_forceWith_98 : decode cX8_forceWith 98 = .ok (.iload_n 2, 1) := dk_28 (dk_at dksX8_forceWith_4 3 rfl rfl)
theorem dX8_forceWith_99 : decode cX8_forceWith 99 = .ok (.aaload, 1) := dk_50 (dk_at dksX8_forceWith_4 4 rfl rfl)
theorem dX8_forceWith_100 : decode cX8_forceWith 100 = .ok (.iconst 0, 1) := dk_3 (dk_at dksX8_forceWith_4 5 rfl rfl)
theorem dX8_forceWith_101 : decode cX8_forceWith 101 = .ok (.iaload, 1) := dk_46 (dk_at dksX8_forceWith_4 6 rfl rfl)
theorem dX8_forceWith_102 : decode cX8_forceWith 102 = .ok (.iload 5, 2) := dk_21 5 (dk_at dksX8_forceWith_4 7 rfl rfl)
theorem dX8_forceWith_104 : decode cX8_forceWith 104 = .ok (.iload 4, 2) := dk_21 4 (dk_at dksX8_forceWith_4 9 rfl rfl)
theorem dX8_forceWith_106 : decode cX8_forceWith 106 = .ok (.aload_n 1, 1) := dk_43 (dk_at dksX8_forceWith_4 11 rfl rfl)
theorem dX8_forceWith_107 : decode cX8_forceWith 107 = .ok (.bipush 99, 2) := dk_16 99 (dk_at dksX8_forceWith_4 12 rfl rfl)
theorem dX8_forceWith_109 : decode cX8_forceWith 109 = .ok (.iaload, 1) := dk_46 (dk_at dksX8_forceWith_4 14 rfl rfl)
theorem dX8_forceWith_110 : decode cX8_forceWith 110 = .ok (.invokevirtual 278, 3) := dk_182 1 22 (dk_at dksX8_forceWith_4 15 rfl rfl)
theorem dX8_forceWith_113 : decode cX8_forceWith 113 = .ok (.ireturn, 1) := dk_172 (dk_at dksX8_forceWith_4 18 rfl rfl)
abbrev cX8_isBeside : ByteArray := prog_30_method_48_code
def yX8_isBeside : MethodName := ⟨RX8, "isBeside", "([III)Z"⟩
def dkwX8_isBeside_2 : List UInt8 := [167, 0, 4, 3, 172]
abbrev dktX8_isBeside_2 : List UInt8 := dkwX8_isBeside_2 ++ []
def dkwX8_isBeside_1 : List UInt8 := [159, 0, 26, 42, 43, 16, 80, 28, 96, 46, 43, 16, 80, 29, 96, 46, 182, 1, 12, 153, 0, 7, 4]
abbrev dktX8_isBeside_1 : List UInt8 := dkwX8_isBeside_1 ++ dktX8_isBeside_2
def dkwX8_isBeside_0 : List UInt8 := [28, 29, 159, 0, 46, 43, 16, 80, 28, 96, 46, 2, 159, 0, 36, 43, 16, 80, 29, 96, 46, 2]
abbrev dktX8_isBeside_0 : List UInt8 := dkwX8_isBeside_0 ++ dktX8_isBeside_1
theorem dksX8_isBeside_0 : cX8_isBeside.data.toList.drop 0 = dktX8_isBeside_0 := by decide +kernel
theorem dksX8_isBeside_1 : cX8_isBeside.data.toList.drop 22 = dktX8_isBeside_1 := dk_seg dksX8_isBeside_0 22 rfl rfl
theorem dksX8_isBeside_2 : cX8_isBeside.data.toList.drop 45 = dktX8_isBeside_2 := dk_seg dksX8_isBeside_1 23 rfl rfl
theorem dX8_isBeside_0 : decode cX8_isBeside 0 = .ok (.iload_n 2, 1) := dk_28 (dk_at dksX8_isBeside_0 0 rfl rfl)
theorem dX8_isBeside_1 : decode cX8_isBeside 1 = .ok (.iload_n 3, 1) := dk_29 (dk_at dksX8_isBeside_0 1 rfl rfl)
theorem dX8_isBeside_2 : decode cX8_isBeside 2 = .ok (.if_icmp .eq 46, 3) := dk_159 0 46 (dk_at dksX8_isBeside_0 2 rfl rfl)
theorem dX8_isBeside_5 : decode cX8_isBeside 5 = .ok (.aload_n 1, 1) := dk_43 (dk_at dksX8_isBeside_0 5 rfl rfl)
theorem dX8_isBeside_6 : decode cX8_isBeside 6 = .ok (.bipush 80, 2) := dk_16 80 (dk_at dksX8_isBeside_0 6 rfl rfl)
theorem dX8_isBeside_8 : decode cX8_isBeside 8 = .ok (.iload_n 2, 1) := dk_28 (dk_at dksX8_isBeside_0 8 rfl rfl)
theorem dX8_isBeside_9 : decode cX8_isBeside 9 = .ok (.iadd, 1) := dk_96 (dk_at dksX8_isBeside_0 9 rfl rfl)
theorem dX8_isBeside_10 : decode cX8_isBeside 10 = .ok (.iaload, 1) := dk_46 (dk_at dksX8_isBeside_0 10 rfl rfl)
theorem dX8_isBeside_11 : decode cX8_isBeside 11 = .ok (.iconst (-1), 1) := dk_2 (dk_at dksX8_isBeside_0 11 rfl rfl)
theorem dX8_isBeside_12 : decode cX8_isBeside 12 = .ok (.if_icmp .eq 36, 3) := dk_159 0 36 (dk_at dksX8_isBeside_0 12 rfl rfl)
theorem dX8_isBeside_15 : decode cX8_isBeside 15 = .ok (.aload_n 1, 1) := dk_43 (dk_at dksX8_isBeside_0 15 rfl rfl)
theorem dX8_isBeside_16 : decode cX8_isBeside 16 = .ok (.bipush 80, 2) := dk_16 80 (dk_at dksX8_isBeside_0 16 rfl rfl)
theorem dX8_isBeside_18 : decode cX8_isBeside 18 = .ok (.iload_n 3, 1) := dk_29 (dk_at dksX8_isBeside_0 18 rfl rfl)
theorem dX8_isBeside_19 : decode cX8_isBeside 19 = .ok (.iadd, 1) := dk_96 (dk_at dksX8_isBeside_0 19 rfl rfl)
theorem dX8_isBeside_20 : decode cX8_isBeside 20 = .ok (.iaload, 1) := dk_46 (dk_at dksX8_isBeside_0 20 rfl rfl)
theorem dX8_isBeside_21 : decode cX8_isBeside 21 = .ok (.iconst (-1), 1) := dk_2 (dk_at dksX8_isBeside_0 21 rfl rfl)
theorem dX8_isBeside_22 : decode cX8_isBeside 22 = .ok (.if_icmp .eq 26, 3) := dk_159 0 26 (dk_at dksX8_isBeside_1 0 rfl rfl)
theorem dX8_isBeside_25 : decode cX8_isBeside 25 = .ok (.aload_n 0, 1) := dk_42 (dk_at dksX8_isBeside_1 3 rfl rfl)
theorem dX8_isBeside_26 : decode cX8_isBeside 26 = .ok (.aload_n 1, 1) := dk_43 (dk_at dksX8_isBeside_1 4 rfl rfl)
theorem dX8_isBeside_27 : decode cX8_isBeside 27 = .ok (.bipush 80, 2) := dk_16 80 (dk_at dksX8_isBeside_1 5 rfl rfl)
theorem dX8_isBeside_29 : decode cX8_isBeside 29 = .ok (.iload_n 2, 1) := dk_28 (dk_at dksX8_isBeside_1 7 rfl rfl)
theorem dX8_isBeside_30 : decode cX8_isBeside 30 = .ok (.iadd, 1) := dk_96 (dk_at dksX8_isBeside_1 8 rfl rfl)
theorem dX8_isBeside_31 : decode cX8_isBeside 31 = .ok (.iaload, 1) := dk_46 (dk_at dksX8_isBeside_1 9 rfl rfl)
theorem dX8_isBeside_32 : decode cX8_isBeside 32 = .ok (.aload_n 1, 1) := dk_43 (dk_at dksX8_isBeside_1 10 rfl rfl)
theorem dX8_isBeside_33 : decode cX8_isBeside 33 = .ok (.bipush 80, 2) := dk_16 80 (dk_at dksX8_isBeside_1 11 rfl rfl)
theorem dX8_isBeside_35 : decode cX8_isBeside 35 = .ok (.iload_n 3, 1) := dk_29 (dk_at dksX8_isBeside_1 13 rfl rfl)
theorem dX8_isBeside_36 : decode cX8_isBeside 36 = .ok (.iadd, 1) := dk_96 (dk_at dksX8_isBeside_1 14 rfl rfl)
theorem dX8_isBeside_37 : decode cX8_isBeside 37 = .ok (.iaload, 1) := dk_46 (dk_at dksX8_isBeside_1 15 rfl rfl)
theorem dX8_isBeside_38 : decode cX8_isBeside 38 = .ok (.invokevirtual 268, 3) := dk_182 1 12 (dk_at dksX8_isBeside_1 16 rfl rfl)
theorem dX8_isBeside_41 : decode cX8_isBeside 41 = .ok (.ifCond .eq 7, 3) := dk_153 0 7 (dk_at dksX8_isBeside_1 19 rfl rfl)
theorem dX8_isBeside_44 : decode cX8_isBeside 44 = .ok (.iconst 1, 1) := dk_4 (dk_at dksX8_isBeside_1 22 rfl rfl)
theorem dX8_isBeside_45 : decode cX8_isBeside 45 = .ok (.goto 4, 3) := dk_167 0 4 (dk_at dksX8_isBeside_2 0 rfl rfl)
theorem dX8_isBeside_48 : decode cX8_isBeside 48 = .ok (.iconst 0, 1) := dk_3 (dk_at dksX8_isBeside_2 3 rfl rfl)
theorem dX8_isBeside_49 : decode cX8_isBeside 49 = .ok (.ireturn, 1) := dk_172 (dk_at dksX8_isBeside_2 4 rfl rfl)
abbrev cX8_isWall : ByteArray := prog_30_method_47_code
def yX8_isWall : MethodName := ⟨RX8, "isWall", "(II)Z"⟩
def dkwX8_isWall_2 : List UInt8 := [42, 180, 0, 43, 29, 50, 4, 46, 27, 160, 0, 5, 4, 172, 132, 3, 1, 167, 255, 193, 3, 172]
abbrev dktX8_isWall_2 : List UInt8 := dkwX8_isWall_2 ++ []
def dkwX8_isWall_1 : List UInt8 := [42, 180, 0, 43, 29, 50, 4, 46, 28, 159, 0, 27, 42, 180, 0, 43, 29, 50, 3, 46, 28, 160, 0, 17]
abbrev dktX8_isWall_1 : List UInt8 := dkwX8_isWall_1 ++ dktX8_isWall_2
def dkwX8_isWall_0 : List UInt8 := [3, 62, 29, 42, 180, 0, 23, 4, 46, 162, 0, 59, 42, 180, 0, 43, 29, 50, 3, 46, 27, 160, 0, 15]
abbrev dktX8_isWall_0 : List UInt8 := dkwX8_isWall_0 ++ dktX8_isWall_1
theorem dksX8_isWall_0 : cX8_isWall.data.toList.drop 0 = dktX8_isWall_0 := by decide +kernel
theorem dksX8_isWall_1 : cX8_isWall.data.toList.drop 24 = dktX8_isWall_1 := dk_seg dksX8_isWall_0 24 rfl rfl
theorem dksX8_isWall_2 : cX8_isWall.data.toList.drop 48 = dktX8_isWall_2 := dk_seg dksX8_isWall_1 24 rfl rfl
theorem dX8_isWall_0 : decode cX8_isWall 0 = .ok (.iconst 0, 1) := dk_3 (dk_at dksX8_isWall_0 0 rfl rfl)
theorem dX8_isWall_1 : decode cX8_isWall 1 = .ok (.istore_n 3, 1) := dk_62 (dk_at dksX8_isWall_0 1 rfl rfl)
theorem dX8_isWall_2 : decode cX8_isWall 2 = .ok (.iload_n 3, 1) := dk_29 (dk_at dksX8_isWall_0 2 rfl rfl)
theorem dX8_isWall_3 : decode cX8_isWall 3 = .ok (.aload_n 0, 1) := dk_42 (dk_at dksX8_isWall_0 3 rfl rfl)
theorem dX8_isWall_4 : decode cX8_isWall 4 = .ok (.getfield 23, 3) := dk_180 0 23 (dk_at dksX8_isWall_0 4 rfl rfl)
theorem dX8_isWall_7 : decode cX8_isWall 7 = .ok (.iconst 1, 1) := dk_4 (dk_at dksX8_isWall_0 7 rfl rfl)
theorem dX8_isWall_8 : decode cX8_isWall 8 = .ok (.iaload, 1) := dk_46 (dk_at dksX8_isWall_0 8 rfl rfl)
theorem dX8_isWall_9 : decode cX8_isWall 9 = .ok (.if_icmp .ge 59, 3) := dk_162 0 59 (dk_at dksX8_isWall_0 9 rfl rfl)
theorem dX8_isWall_12 : decode cX8_isWall 12 = .ok (.aload_n 0, 1) := dk_42 (dk_at dksX8_isWall_0 12 rfl rfl)
theorem dX8_isWall_13 : decode cX8_isWall 13 = .ok (.getfield 43, 3) := dk_180 0 43 (dk_at dksX8_isWall_0 13 rfl rfl)
theorem dX8_isWall_16 : decode cX8_isWall 16 = .ok (.iload_n 3, 1) := dk_29 (dk_at dksX8_isWall_0 16 rfl rfl)
theorem dX8_isWall_17 : decode cX8_isWall 17 = .ok (.aaload, 1) := dk_50 (dk_at dksX8_isWall_0 17 rfl rfl)
theorem dX8_isWall_18 : decode cX8_isWall 18 = .ok (.iconst 0, 1) := dk_3 (dk_at dksX8_isWall_0 18 rfl rfl)
theorem dX8_isWall_19 : decode cX8_isWall 19 = .ok (.iaload, 1) := dk_46 (dk_at dksX8_isWall_0 19 rfl rfl)
theorem dX8_isWall_20 : decode cX8_isWall 20 = .ok (.iload_n 1, 1) := dk_27 (dk_at dksX8_isWall_0 20 rfl rfl)
theorem dX8_isWall_21 : decode cX8_isWall 21 = .ok (.if_icmp .ne 15, 3) := dk_160 0 15 (dk_at dksX8_isWall_0 21 rfl rfl)
theorem dX8_isWall_24 : decode cX8_isWall 24 = .ok (.aload_n 0, 1) := dk_42 (dk_at dksX8_isWall_1 0 rfl rfl)
theorem dX8_isWall_25 : decode cX8_isWall 25 = .ok (.getfield 43, 3) := dk_180 0 43 (dk_at dksX8_isWall_1 1 rfl rfl)
theorem dX8_isWall_28 : decode cX8_isWall 28 = .ok (.iload_n 3, 1) := dk_29 (dk_at dksX8_isWall_1 4 rfl rfl)
theorem dX8_isWall_29 : decode cX8_isWall 29 = .ok (.aaload, 1) := dk_50 (dk_at dksX8_isWall_1 5 rfl rfl)
theorem dX8_isWall_30 : decode cX8_isWall 30 = .ok (.iconst 1, 1) := dk_4 (dk_at dksX8_isWall_1 6 rfl rfl)
theorem dX8_isWall_31 : decode cX8_isWall 31 = .ok (.iaload, 1) := dk_46 (dk_at dksX8_isWall_1 7 rfl rfl)
theorem dX8_isWall_32 : decode cX8_isWall 32 = .ok (.iload_n 2, 1) := dk_28 (dk_at dksX8_isWall_1 8 rfl rfl)
theorem dX8_isWall_33 : decode cX8_isWall 33 = .ok (.if_icmp .eq 27, 3) := dk_159 0 27 (dk_at dksX8_isWall_1 9 rfl rfl)
theorem dX8_isWall_36 : decode cX8_isWall 36 = .ok (.aload_n 0, 1) := dk_42 (dk_at dksX8_isWall_1 12 rfl rfl)
theorem dX8_isWall_37 : decode cX8_isWall 37 = .ok (.getfield 43, 3) := dk_180 0 43 (dk_at dksX8_isWall_1 13 rfl rfl)
theorem dX8_isWall_40 : decode cX8_isWall 40 = .ok (.iload_n 3, 1) := dk_29 (dk_at dksX8_isWall_1 16 rfl rfl)
theorem dX8_isWall_41 : decode cX8_isWall 41 = .ok (.aaload, 1) := dk_50 (dk_at dksX8_isWall_1 17 rfl rfl)
theorem dX8_isWall_42 : decode cX8_isWall 42 = .ok (.iconst 0, 1) := dk_3 (dk_at dksX8_isWall_1 18 rfl rfl)
theorem dX8_isWall_43 : decode cX8_isWall 43 = .ok (.iaload, 1) := dk_46 (dk_at dksX8_isWall_1 19 rfl rfl)
theorem dX8_isWall_44 : decode cX8_isWall 44 = .ok (.iload_n 2, 1) := dk_28 (dk_at dksX8_isWall_1 20 rfl rfl)
theorem dX8_isWall_45 : decode cX8_isWall 45 = .ok (.if_icmp .ne 17, 3) := dk_160 0 17 (dk_at dksX8_isWall_1 21 rfl rfl)
theorem dX8_isWall_48 : decode cX8_isWall 48 = .ok (.aload_n 0, 1) := dk_42 (dk_at dksX8_isWall_2 0 rfl rfl)
theorem dX8_isWall_49 : decode cX8_isWall 49 = .ok (.getfield 43, 3) := dk_180 0 43 (dk_at dksX8_isWall_2 1 rfl rfl)
theorem dX8_isWall_52 : decode cX8_isWall 52 = .ok (.iload_n 3, 1) := dk_29 (dk_at dksX8_isWall_2 4 rfl rfl)
theorem dX8_isWall_53 : decode cX8_isWall 53 = .ok (.aaload, 1) := dk_50 (dk_at dksX8_isWall_2 5 rfl rfl)
theorem dX8_isWall_54 : decode cX8_isWall 54 = .ok (.iconst 1, 1) := dk_4 (dk_at dksX8_isWall_2 6 rfl rfl)
theorem dX8_isWall_55 : decode cX8_isWall 55 = .ok (.iaload, 1) := dk_46 (dk_at dksX8_isWall_2 7 rfl rfl)
theorem dX8_isWall_56 : decode cX8_isWall 56 = .ok (.iload_n 1, 1) := dk_27 (dk_at dksX8_isWall_2 8 rfl rfl)
theorem dX8_isWall_57 : decode cX8_isWall 57 = .ok (.if_icmp .ne 5, 3) := dk_160 0 5 (dk_at dksX8_isWall_2 9 rfl rfl)
theorem dX8_isWall_60 : decode cX8_isWall 60 = .ok (.iconst 1, 1) := dk_4 (dk_at dksX8_isWall_2 12 rfl rfl)
theorem dX8_isWall_61 : decode cX8_isWall 61 = .ok (.ireturn, 1) := dk_172 (dk_at dksX8_isWall_2 13 rfl rfl)
theorem dX8_isWall_62 : decode cX8_isWall 62 = .ok (.iinc 3 1, 3) := dk_132 3 1 (dk_at dksX8_isWall_2 14 rfl rfl)
theorem dX8_isWall_65 : decode cX8_isWall 65 = .ok (.goto (-63), 3) := dk_167 255 193 (dk_at dksX8_isWall_2 17 rfl rfl)
theorem dX8_isWall_68 : decode cX8_isWall 68 = .ok (.iconst 0, 1) := dk_3 (dk_at dksX8_isWall_2 20 rfl rfl)
theorem dX8_isWall_69 : decode cX8_isWall 69 = .ok (.ireturn, 1) := dk_172 (dk_at dksX8_isWall_2 21 rfl rfl)
abbrev cX8_forceBy : ByteArray := prog_30_method_50_code
def yX8_forceBy : MethodName := ⟨RX8, "forceBy", "(IIIIIIII)I"⟩
def dkwX8_forceBy_2 : List UInt8 := [180, 0, 67, 16, 6, 21, 7, 79, 42, 180, 0, 67, 16, 7, 21, 8, 79, 42, 182, 1, 19, 172]
abbrev dktX8_forceBy_2 : List UInt8 := dkwX8_forceBy_2 ++ []
def dkwX8_forceBy_1 : List UInt8 := [180, 0, 67, 6, 21, 4, 79, 42, 180, 0, 67, 7, 21, 5, 79, 42, 180, 0, 67, 8, 21, 6, 79, 42]
abbrev dktX8_forceBy_1 : List UInt8 := dkwX8_forceBy_1 ++ dktX8_forceBy_2
def dkwX8_forceBy_0 : List UInt8 := [42, 180, 0, 67, 3, 27, 79, 42, 180, 0, 67, 4, 28, 79, 42, 180, 0, 67, 5, 29, 79, 42]
abbrev dktX8_forceBy_0 : List UInt8 := dkwX8_forceBy_0 ++ dktX8_forceBy_1
theorem dksX8_forceBy_0 : cX8_forceBy.data.toList.drop 0 = dktX8_forceBy_0 := by decide +kernel
theorem dksX8_forceBy_1 : cX8_forceBy.data.toList.drop 22 = dktX8_forceBy_1 := dk_seg dksX8_forceBy_0 22 rfl rfl
theorem dksX8_forceBy_2 : cX8_forceBy.data.toList.drop 46 = dktX8_forceBy_2 := dk_seg dksX8_forceBy_1 24 rfl rfl
theorem dX8_forceBy_0 : decode cX8_forceBy 0 = .ok (.aload_n 0, 1) := dk_42 (dk_at dksX8_forceBy_0 0 rfl rfl)
theorem dX8_forceBy_1 : decode cX8_forceBy 1 = .ok (.getfield 67, 3) := dk_180 0 67 (dk_at dksX8_forceBy_0 1 rfl rfl)
theorem dX8_forceBy_4 : decode cX8_forceBy 4 = .ok (.iconst 0, 1) := dk_3 (dk_at dksX8_forceBy_0 4 rfl rfl)
theorem dX8_forceBy_5 : decode cX8_forceBy 5 = .ok (.iload_n 1, 1) := dk_27 (dk_at dksX8_forceBy_0 5 rfl rfl)
theorem dX8_forceBy_6 : decode cX8_forceBy 6 = .ok (.iastore, 1) := dk_79 (dk_at dksX8_forceBy_0 6 rfl rfl)
theorem dX8_forceBy_7 : decode cX8_forceBy 7 = .ok (.aload_n 0, 1) := dk_42 (dk_at dksX8_forceBy_0 7 rfl rfl)
theorem dX8_forceBy_8 : decode cX8_forceBy 8 = .ok (.getfield 67, 3) := dk_180 0 67 (dk_at dksX8_forceBy_0 8 rfl rfl)
theorem dX8_forceBy_11 : decode cX8_forceBy 11 = .ok (.iconst 1, 1) := dk_4 (dk_at dksX8_forceBy_0 11 rfl rfl)
theorem dX8_forceBy_12 : decode cX8_forceBy 12 = .ok (.iload_n 2, 1) := dk_28 (dk_at dksX8_forceBy_0 12 rfl rfl)
theorem dX8_forceBy_13 : decode cX8_forceBy 13 = .ok (.iastore, 1) := dk_79 (dk_at dksX8_forceBy_0 13 rfl rfl)
theorem dX8_forceBy_14 : decode cX8_forceBy 14 = .ok (.aload_n 0, 1) := dk_42 (dk_at dksX8_forceBy_0 14 rfl rfl)
theorem dX8_forceBy_15 : decode cX8_forceBy 15 = .ok (.getfield 67, 3) := dk_180 0 67 (dk_at dksX8_forceBy_0 15 rfl rfl)
theorem dX8_forceBy_18 : decode cX8_forceBy 18 = .ok (.iconst 2, 1) := dk_5 (dk_at dksX8_forceBy_0 18 rfl rfl)
theorem dX8_forceBy_19 : decode cX8_forceBy 19 = .ok (.iload_n 3, 1) := dk_29 (dk_at dksX8_forceBy_0 19 rfl rfl)
theorem dX8_forceBy_20 : decode cX8_forceBy 20 = .ok (.iastore, 1) := dk_79 (dk_at dksX8_forceBy_0 20 rfl rfl)
theorem dX8_forceBy_21 : decode cX8_forceBy 21 = .ok (.aload_n 0, 1) := dk_42 (dk_at dksX8_forceBy_0 21 rfl rfl)
theorem dX8_forceBy_22 : decode cX8_forceBy 22 = .ok (.getfield 67, 3) := dk_180 0 67 (dk_at dksX8_forceBy_1 0 rfl rfl)
theorem dX8_forceBy_25 : decode cX8_forceBy 25 = .ok (.iconst 3, 1) := dk_6 (dk_at dksX8_forceBy_1 3 rfl rfl)
theorem dX8_forceBy_26 : decode cX8_forceBy 26 = .ok (.iload 4, 2) := dk_21 4 (dk_at dksX8_forceBy_1 4 rfl rfl)
theorem dX8_forceBy_28 : decode cX8_forceBy 28 = .ok (.iastore, 1) := dk_79 (dk_at dksX8_forceBy_1 6 rfl rfl)
theorem dX8_forceBy_29 : decode cX8_forceBy 29 = .ok (.aload_n 0, 1) := dk_42 (dk_at dksX8_forceBy_1 7 rfl rfl)
theorem dX8_forceBy_30 : decode cX8_forceBy 30 = .ok (.getfield 67, 3) := dk_180 0 67 (dk_at dksX8_forceBy_1 8 rfl rfl)
theorem dX8_forceBy_33 : decode cX8_forceBy 33 = .ok (.iconst 4, 1) := dk_7 (dk_at dksX8_forceBy_1 11 rfl rfl)
theorem dX8_forceBy_34 : decode cX8_forceBy 34 = .ok (.iload 5, 2) := dk_21 5 (dk_at dksX8_forceBy_1 12 rfl rfl)
theorem dX8_forceBy_36 : decode cX8_forceBy 36 = .ok (.iastore, 1) := dk_79 (dk_at dksX8_forceBy_1 14 rfl rfl)
theorem dX8_forceBy_37 : decode cX8_forceBy 37 = .ok (.aload_n 0, 1) := dk_42 (dk_at dksX8_forceBy_1 15 rfl rfl)
theorem dX8_forceBy_38 : decode cX8_forceBy 38 = .ok (.getfield 67, 3) := dk_180 0 67 (dk_at dksX8_forceBy_1 16 rfl rfl)
theorem dX8_forceBy_41 : decode cX8_forceBy 41 = .ok (.iconst 5, 1) := dk_8 (dk_at dksX8_forceBy_1 19 rfl rfl)
theorem dX8_forceBy_42 : decode cX8_forceBy 42 = .ok (.iload 6, 2) := dk_21 6 (dk_at dksX8_forceBy_1 20 rfl rfl)
theorem dX8_forceBy_44 : decode cX8_forceBy 44 = .ok (.iastore, 1) := dk_79 (dk_at dksX8_forceBy_1 22 rfl rfl)
theorem dX8_forceBy_45 : decode cX8_forceBy 45 = .ok (.aload_n 0, 1) := dk_42 (dk_at dksX8_forceBy_1 23 rfl rfl)
theorem dX8_forceBy_46 : decode cX8_forceBy 46 = .ok (.getfield 67, 3) := dk_180 0 67 (dk_at dksX8_forceBy_2 0 rfl rfl)
theorem dX8_forceBy_49 : decode cX8_forceBy 49 = .ok (.bipush 6, 2) := dk_16 6 (dk_at dksX8_forceBy_2 3 rfl rfl)
theorem dX8_forceBy_51 : decode cX8_forceBy 51 = .ok (.iload 7, 2) := dk_21 7 (dk_at dksX8_forceBy_2 5 rfl rfl)
theorem dX8_forceBy_53 : decode cX8_forceBy 53 = .ok (.iastore, 1) := dk_79 (dk_at dksX8_forceBy_2 7 rfl rfl)
theorem dX8_forceBy_54 : decode cX8_forceBy 54 = .ok (.aload_n 0, 1) := dk_42 (dk_at dksX8_forceBy_2 8 rfl rfl)
theorem dX8_forceBy_55 : decode cX8_forceBy 55 = .ok (.getfield 67, 3) := dk_180 0 67 (dk_at dksX8_forceBy_2 9 rfl rfl)
theorem dX8_forceBy_58 : decode cX8_forceBy 58 = .ok (.bipush 7, 2) := dk_16 7 (dk_at dksX8_forceBy_2 12 rfl rfl)
theorem dX8_forceBy_60 : decode cX8_forceBy 60 = .ok (.iload 8, 2) := dk_21 8 (dk_at dksX8_forceBy_2 14 rfl rfl)
theorem dX8_forceBy_62 : decode cX8_forceBy 62 = .ok (.iastore, 1) := dk_79 (dk_at dksX8_forceBy_2 16 rfl rfl)
theorem dX8_forceBy_63 : decode cX8_forceBy 63 = .ok (.aload_n 0, 1) := dk_42 (dk_at dksX8_forceBy_2 17 rfl rfl)
theorem dX8_forceBy_64 : decode cX8_forceBy 64 = .ok (.invokevirtual 275, 3) := dk_182 1 19 (dk_at dksX8_forceBy_2 18 rfl rfl)
theorem dX8_forceBy_67 : decode cX8_forceBy 67 = .ok (.ireturn, 1) := dk_172 (dk_at dksX8_forceBy_2 21 rfl rfl)
abbrev cX8_byLaw : ByteArray := prog_30_method_42_code
def yX8_byLaw : MethodName := ⟨RX8, "byLaw", "()I"⟩
def dkwX8_byLaw_6 : List UInt8 := [184, 0, 252, 184, 0, 249, 172]
abbrev dktX8_byLaw_6 : List UInt8 := dkwX8_byLaw_6 ++ []
def dkwX8_byLaw_5 : List UInt8 := [180, 0, 64, 27, 46, 184, 0, 255, 79, 132, 2, 1, 167, 255, 150, 16, 40, 3, 42, 180, 0, 64, 3, 46]
abbrev dktX8_byLaw_5 : List UInt8 := dkwX8_byLaw_5 ++ dktX8_byLaw_6
def dkwX8_byLaw_4 : List UInt8 := [180, 0, 64, 27, 4, 100, 42, 180, 0, 52, 28, 50, 3, 46, 42, 180, 0, 64, 27, 4, 100, 46, 42]
abbrev dktX8_byLaw_4 : List UInt8 := dkwX8_byLaw_4 ++ dktX8_byLaw_5
def dkwX8_byLaw_3 : List UInt8 := [180, 0, 67, 42, 180, 0, 52, 28, 50, 4, 46, 46, 79, 132, 1, 1, 167, 0, 39, 132, 1, 255, 42]
abbrev dktX8_byLaw_3 : List UInt8 := dkwX8_byLaw_3 ++ dktX8_byLaw_4
def dkwX8_byLaw_2 : List UInt8 := [42, 180, 0, 52, 28, 50, 3, 46, 154, 0, 14, 42, 180, 0, 52, 28, 50, 4, 46, 167, 0, 16, 42]
abbrev dktX8_byLaw_2 : List UInt8 := dkwX8_byLaw_2 ++ dktX8_byLaw_3
def dkwX8_byLaw_1 : List UInt8 := [42, 180, 0, 206, 162, 0, 104, 42, 180, 0, 52, 28, 50, 3, 46, 5, 162, 0, 50, 42, 180, 0, 64, 27]
abbrev dktX8_byLaw_1 : List UInt8 := dkwX8_byLaw_1 ++ dktX8_byLaw_2
def dkwX8_byLaw_0 : List UInt8 := [3, 60, 42, 180, 0, 64, 3, 42, 180, 0, 67, 3, 46, 42, 180, 0, 67, 4, 46, 100, 79, 3, 61, 28]
abbrev dktX8_byLaw_0 : List UInt8 := dkwX8_byLaw_0 ++ dktX8_byLaw_1
theorem dksX8_byLaw_0 : cX8_byLaw.data.toList.drop 0 = dktX8_byLaw_0 := by decide +kernel
theorem dksX8_byLaw_1 : cX8_byLaw.data.toList.drop 24 = dktX8_byLaw_1 := dk_seg dksX8_byLaw_0 24 rfl rfl
theorem dksX8_byLaw_2 : cX8_byLaw.data.toList.drop 48 = dktX8_byLaw_2 := dk_seg dksX8_byLaw_1 24 rfl rfl
theorem dksX8_byLaw_3 : cX8_byLaw.data.toList.drop 71 = dktX8_byLaw_3 := dk_seg dksX8_byLaw_2 23 rfl rfl
theorem dksX8_byLaw_4 : cX8_byLaw.data.toList.drop 94 = dktX8_byLaw_4 := dk_seg dksX8_byLaw_3 23 rfl rfl
theorem dksX8_byLaw_5 : cX8_byLaw.data.toList.drop 117 = dktX8_byLaw_5 := dk_seg dksX8_byLaw_4 23 rfl rfl
theorem dksX8_byLaw_6 : cX8_byLaw.data.toList.drop 141 = dktX8_byLaw_6 := dk_seg dksX8_byLaw_5 24 rfl rfl
theorem dX8_byLaw_0 : decode cX8_byLaw 0 = .ok (.iconst 0, 1) := dk_3 (dk_at dksX8_byLaw_0 0 rfl rfl)
theorem dX8_byLaw_1 : decode cX8_byLaw 1 = .ok (.istore_n 1, 1) := dk_60 (dk_at dksX8_byLaw_0 1 rfl rfl)
theorem dX8_byLaw_2 : decode cX8_byLaw 2 = .ok (.aload_n 0, 1) := dk_42 (dk_at dksX8_byLaw_0 2 rfl rfl)
theorem dX8_byLaw_3 : decode cX8_byLaw 3 = .ok (.getfield 64, 3) := dk_180 0 64 (dk_at dksX8_byLaw_0 3 rfl rfl)
theorem dX8_byLaw_6 : decode cX8_byLaw 6 = .ok (.iconst 0, 1) := dk_3 (dk_at dksX8_byLaw_0 6 rfl rfl)
theorem dX8_byLaw_7 : decode cX8_byLaw 7 = .ok (.aload_n 0, 1) := dk_42 (dk_at dksX8_byLaw_0 7 rfl rfl)
theorem dX8_byLaw_8 : decode cX8_byLaw 8 = .ok (.getfield 67, 3) := dk_180 0 67 (dk_at dksX8_byLaw_0 8 rfl rfl)
theorem dX8_byLaw_11 : decode cX8_byLaw 11 = .ok (.iconst 0, 1) := dk_3 (dk_at dksX8_byLaw_0 11 rfl rfl)
theorem dX8_byLaw_12 : decode cX8_byLaw 12 = .ok (.iaload, 1) := dk_46 (dk_at dksX8_byLaw_0 12 rfl rfl)
theorem dX8_byLaw_13 : decode cX8_byLaw 13 = .ok (.aload_n 0, 1) := dk_42 (dk_at dksX8_byLaw_0 13 rfl rfl)
theorem dX8_byLaw_14 : decode cX8_byLaw 14 = .ok (.getfield 67, 3) := dk_180 0 67 (dk_at dksX8_byLaw_0 14 rfl rfl)
theorem dX8_byLaw_17 : decode cX8_byLaw 17 = .ok (.iconst 1, 1) := dk_4 (dk_at dksX8_byLaw_0 17 rfl rfl)
theorem dX8_byLaw_18 : decode cX8_byLaw 18 = .ok (.iaload, 1) := dk_46 (dk_at dksX8_byLaw_0 18 rfl rfl)
theorem dX8_byLaw_19 : decode cX8_byLaw 19 = .ok (.isub, 1) := dk_100 (dk_at dksX8_byLaw_0 19 rfl rfl)
theorem dX8_byLaw_20 : decode cX8_byLaw 20 = .ok (.iastore, 1) := dk_79 (dk_at dksX8_byLaw_0 20 rfl rfl)
theorem dX8_byLaw_21 : decode cX8_byLaw 21 = .ok (.iconst 0, 1) := dk_3 (dk_at dksX8_byLaw_0 21 rfl rfl)
theorem dX8_byLaw_22 : decode cX8_byLaw 22 = .ok (.istore_n 2, 1) := dk_61 (dk_at dksX8_byLaw_0 22 rfl rfl)
theorem dX8_byLaw_23 : decode cX8_byLaw 23 = .ok (.iload_n 2, 1) := dk_28 (dk_at dksX8_byLaw_0 23 rfl rfl)
theorem dX8_byLaw_24 : decode cX8_byLaw 24 = .ok (.aload_n 0, 1) := dk_42 (dk_at dksX8_byLaw_1 0 rfl rfl)
theorem dX8_byLaw_25 : decode cX8_byLaw 25 = .ok (.getfield 206, 3) := dk_180 0 206 (dk_at dksX8_byLaw_1 1 rfl rfl)
theorem dX8_byLaw_28 : decode cX8_byLaw 28 = .ok (.if_icmp .ge 104, 3) := dk_162 0 104 (dk_at dksX8_byLaw_1 4 rfl rfl)
theorem dX8_byLaw_31 : decode cX8_byLaw 31 = .ok (.aload_n 0, 1) := dk_42 (dk_at dksX8_byLaw_1 7 rfl rfl)
theorem dX8_byLaw_32 : decode cX8_byLaw 32 = .ok (.getfield 52, 3) := dk_180 0 52 (dk_at dksX8_byLaw_1 8 rfl rfl)
theorem dX8_byLaw_35 : decode cX8_byLaw 35 = .ok (.iload_n 2, 1) := dk_28 (dk_at dksX8_byLaw_1 11 rfl rfl)
theorem dX8_byLaw_36 : decode cX8_byLaw 36 = .ok (.aaload, 1) := dk_50 (dk_at dksX8_byLaw_1 12 rfl rfl)
theorem dX8_byLaw_37 : decode cX8_byLaw 37 = .ok (.iconst 0, 1) := dk_3 (dk_at dksX8_byLaw_1 13 rfl rfl)
theorem dX8_byLaw_38 : decode cX8_byLaw 38 = .ok (.iaload, 1) := dk_46 (dk_at dksX8_byLaw_1 14 rfl rfl)
theorem dX8_byLaw_39 : decode cX8_byLaw 39 = .ok (.iconst 2, 1) := dk_5 (dk_at dksX8_byLaw_1 15 rfl rfl)
theorem dX8_byLaw_40 : decode cX8_byLaw 40 = .ok (.if_icmp .ge 50, 3) := dk_162 0 50 (dk_at dksX8_byLaw_1 16 rfl rfl)
theorem dX8_byLaw_43 : decode cX8_byLaw 43 = .ok (.aload_n 0, 1) := dk_42 (dk_at dksX8_byLaw_1 19 rfl rfl)
theorem dX8_byLaw_44 : decode cX8_byLaw 44 = .ok (.getfield 64, 3) := dk_180 0 64 (dk_at dksX8_byLaw_1 20 rfl rfl)
theorem dX8_byLaw_47 : decode cX8_byLaw 47 = .ok (.iload_n 1, 1) := dk_27 (dk_at dksX8_byLaw_1 23 rfl rfl)
theorem dX8_byLaw_48 : decode cX8_byLaw 48 = .ok (.aload_n 0, 1) := dk_42 (dk_at dksX8_byLaw_2 0 rfl rfl)
theorem dX8_byLaw_49 : decode cX8_byLaw 49 = .ok (.getfield 52, 3) := dk_180 0 52 (dk_at dksX8_byLaw_2 1 rfl rfl)
theorem dX8_byLaw_52 : decode cX8_byLaw 52 = .ok (.iload_n 2, 1) := dk_28 (dk_at dksX8_byLaw_2 4 rfl rfl)
theorem dX8_byLaw_53 : decode cX8_byLaw 53 = .ok (.aaload, 1) := dk_50 (dk_at dksX8_byLaw_2 5 rfl rfl)
theorem dX8_byLaw_54 : decode cX8_byLaw 54 = .ok (.iconst 0, 1) := dk_3 (dk_at dksX8_byLaw_2 6 rfl rfl)
theorem dX8_byLaw_55 : decode cX8_byLaw 55 = .ok (.iaload, 1) := dk_46 (dk_at dksX8_byLaw_2 7 rfl rfl)
theorem dX8_byLaw_56 : decode cX8_byLaw 56 = .ok (.ifCond .ne 14, 3) := dk_154 0 14 (dk_at dksX8_byLaw_2 8 rfl rfl)
theorem dX8_byLaw_59 : decode cX8_byLaw 59 = .ok (.aload_n 0, 1) := dk_42 (dk_at dksX8_byLaw_2 11 rfl rfl)
theorem dX8_byLaw_60 : decode cX8_byLaw 60 = .ok (.getfield 52, 3) := dk_180 0 52 (dk_at dksX8_byLaw_2 12 rfl rfl)
theorem dX8_byLaw_63 : decode cX8_byLaw 63 = .ok (.iload_n 2, 1) := dk_28 (dk_at dksX8_byLaw_2 15 rfl rfl)
theorem dX8_byLaw_64 : decode cX8_byLaw 64 = .ok (.aaload, 1) := dk_50 (dk_at dksX8_byLaw_2 16 rfl rfl)
theorem dX8_byLaw_65 : decode cX8_byLaw 65 = .ok (.iconst 1, 1) := dk_4 (dk_at dksX8_byLaw_2 17 rfl rfl)
theorem dX8_byLaw_66 : decode cX8_byLaw 66 = .ok (.iaload, 1) := dk_46 (dk_at dksX8_byLaw_2 18 rfl rfl)
theorem dX8_byLaw_67 : decode cX8_byLaw 67 = .ok (.goto 16, 3) := dk_167 0 16 (dk_at dksX8_byLaw_2 19 rfl rfl)
theorem dX8_byLaw_70 : decode cX8_byLaw 70 = .ok (.aload_n 0, 1) := dk_42 (dk_at dksX8_byLaw_2 22 rfl rfl)
theorem dX8_byLaw_71 : decode cX8_byLaw 71 = .ok (.getfield 67, 3) := dk_180 0 67 (dk_at dksX8_byLaw_3 0 rfl rfl)
theorem dX8_byLaw_74 : decode cX8_byLaw 74 = .ok (.aload_n 0, 1) := dk_42 (dk_at dksX8_byLaw_3 3 rfl rfl)
theorem dX8_byLaw_75 : decode cX8_byLaw 75 = .ok (.getfield 52, 3) := dk_180 0 52 (dk_at dksX8_byLaw_3 4 rfl rfl)
theorem dX8_byLaw_78 : decode cX8_byLaw 78 = .ok (.iload_n 2, 1) := dk_28 (dk_at dksX8_byLaw_3 7 rfl rfl)
theorem dX8_byLaw_79 : decode cX8_byLaw 79 = .ok (.aaload, 1) := dk_50 (dk_at dksX8_byLaw_3 8 rfl rfl)
theorem dX8_byLaw_80 : decode cX8_byLaw 80 = .ok (.iconst 1, 1) := dk_4 (dk_at dksX8_byLaw_3 9 rfl rfl)
theorem dX8_byLaw_81 : decode cX8_byLaw 81 = .ok (.iaload, 1) := dk_46 (dk_at dksX8_byLaw_3 10 rfl rfl)
theorem dX8_byLaw_82 : decode cX8_byLaw 82 = .ok (.iaload, 1) := dk_46 (dk_at dksX8_byLaw_3 11 rfl rfl)
theorem dX8_byLaw_83 : decode cX8_byLaw 83 = .ok (.iastore, 1) := dk_79 (dk_at dksX8_byLaw_3 12 rfl rfl)
theorem dX8_byLaw_84 : decode cX8_byLaw 84 = .ok (.iinc 1 1, 3) := dk_132 1 1 (dk_at dksX8_byLaw_3 13 rfl rfl)
theorem dX8_byLaw_87 : decode cX8_byLaw 87 = .ok (.goto 39, 3) := dk_167 0 39 (dk_at dksX8_byLaw_3 16 rfl rfl)
theorem dX8_byLaw_90 : decode cX8_byLaw 90 = .ok (.iinc 1 (-1), 3) := dk_132 1 255 (dk_at dksX8_byLaw_3 19 rfl rfl)
theorem dX8_byLaw_93 : decode cX8_byLaw 93 = .ok (.aload_n 0, 1) := dk_42 (dk_at dksX8_byLaw_3 22 rfl rfl)
theorem dX8_byLaw_94 : decode cX8_byLaw 94 = .ok (.getfield 64, 3) := dk_180 0 64 (dk_at dksX8_byLaw_4 0 rfl rfl)
theorem dX8_byLaw_97 : decode cX8_byLaw 97 = .ok (.iload_n 1, 1) := dk_27 (dk_at dksX8_byLaw_4 3 rfl rfl)
theorem dX8_byLaw_98 : decode cX8_byLaw 98 = .ok (.iconst 1, 1) := dk_4 (dk_at dksX8_byLaw_4 4 rfl rfl)
theorem dX8_byLaw_99 : decode cX8_byLaw 99 = .ok (.isub, 1) := dk_100 (dk_at dksX8_byLaw_4 5 rfl rfl)
theorem dX8_byLaw_100 : decode cX8_byLaw 100 = .ok (.aload_n 0, 1) := dk_42 (dk_at dksX8_byLaw_4 6 rfl rfl)
theorem dX8_byLaw_101 : decode cX8_byLaw 101 = .ok (.getfield 52, 3) := dk_180 0 52 (dk_at dksX8_byLaw_4 7 rfl rfl)
theorem dX8_byLaw_104 : decode cX8_byLaw 104 = .ok (.iload_n 2, 1) := dk_28 (dk_at dksX8_byLaw_4 10 rfl rfl)
theorem dX8_byLaw_105 : decode cX8_byLaw 105 = .ok (.aaload, 1) := dk_50 (dk_at dksX8_byLaw_4 11 rfl rfl)
theorem dX8_byLaw_106 : decode cX8_byLaw 106 = .ok (.iconst 0, 1) := dk_3 (dk_at dksX8_byLaw_4 12 rfl rfl)
theorem dX8_byLaw_107 : decode cX8_byLaw 107 = .ok (.iaload, 1) := dk_46 (dk_at dksX8_byLaw_4 13 rfl rfl)
theorem dX8_byLaw_108 : decode cX8_byLaw 108 = .ok (.aload_n 0, 1) := dk_42 (dk_at dksX8_byLaw_4 14 rfl rfl)
theorem dX8_byLaw_109 : decode cX8_byLaw 109 = .ok (.getfield 64, 3) := dk_180 0 64 (dk_at dksX8_byLaw_4 15 rfl rfl)
theorem dX8_byLaw_112 : decode cX8_byLaw 112 = .ok (.iload_n 1, 1) := dk_27 (dk_at dksX8_byLaw_4 18 rfl rfl)
theorem dX8_byLaw_113 : decode cX8_byLaw 113 = .ok (.iconst 1, 1) := dk_4 (dk_at dksX8_byLaw_4 19 rfl rfl)
theorem dX8_byLaw_114 : decode cX8_byLaw 114 = .ok (.isub, 1) := dk_100 (dk_at dksX8_byLaw_4 20 rfl rfl)
theorem dX8_byLaw_115 : decode cX8_byLaw 115 = .ok (.iaload, 1) := dk_46 (dk_at dksX8_byLaw_4 21 rfl rfl)
theorem dX8_byLaw_116 : decode cX8_byLaw 116 = .ok (.aload_n 0, 1) := dk_42 (dk_at dksX8_byLaw_4 22 rfl rfl)
theorem dX8_byLaw_117 : decode cX8_byLaw 117 = .ok (.getfield 64, 3) := dk_180 0 64 (dk_at dksX8_byLaw_5 0 rfl rfl)
theorem dX8_byLaw_120 : decode cX8_byLaw 120 = .ok (.iload_n 1, 1) := dk_27 (dk_at dksX8_byLaw_5 3 rfl rfl)
theorem dX8_byLaw_121 : decode cX8_byLaw 121 = .ok (.iaload, 1) := dk_46 (dk_at dksX8_byLaw_5 4 rfl rfl)
theorem dX8_byLaw_122 : decode cX8_byLaw 122 = .ok (.invokestatic 255, 3) := dk_184 0 255 (dk_at dksX8_byLaw_5 5 rfl rfl)
theorem dX8_byLaw_125 : decode cX8_byLaw 125 = .ok (.iastore, 1) := dk_79 (dk_at dksX8_byLaw_5 8 rfl rfl)
theorem dX8_byLaw_126 : decode cX8_byLaw 126 = .ok (.iinc 2 1, 3) := dk_132 2 1 (dk_at dksX8_byLaw_5 9 rfl rfl)
theorem dX8_byLaw_129 : decode cX8_byLaw 129 = .ok (.goto (-106), 3) := dk_167 255 150 (dk_at dksX8_byLaw_5 12 rfl rfl)
theorem dX8_byLaw_132 : decode cX8_byLaw 132 = .ok (.bipush 40, 2) := dk_16 40 (dk_at dksX8_byLaw_5 15 rfl rfl)
theorem dX8_byLaw_134 : decode cX8_byLaw 134 = .ok (.iconst 0, 1) := dk_3 (dk_at dksX8_byLaw_5 17 rfl rfl)
theorem dX8_byLaw_135 : decode cX8_byLaw 135 = .ok (.aload_n 0, 1) := dk_42 (dk_at dksX8_byLaw_5 18 rfl rfl)
theorem dX8_byLaw_136 : decode cX8_byLaw 136 = .ok (.getfield 64, 3) := dk_180 0 64 (dk_at dksX8_byLaw_5 19 rfl rfl)
theorem dX8_byLaw_139 : decode cX8_byLaw 139 = .ok (.iconst 0, 1) := dk_3 (dk_at dksX8_byLaw_5 22 rfl rfl)
theorem dX8_byLaw_140 : decode cX8_byLaw 140 = .ok (.iaload, 1) := dk_46 (dk_at dksX8_byLaw_5 23 rfl rfl)
theorem dX8_byLaw_141 : decode cX8_byLaw 141 = .ok (.invokestatic 252, 3) := dk_184 0 252 (dk_at dksX8_byLaw_6 0 rfl rfl)
theorem dX8_byLaw_144 : decode cX8_byLaw 144 = .ok (.invokestatic 249, 3) := dk_184 0 249 (dk_at dksX8_byLaw_6 3 rfl rfl)
theorem dX8_byLaw_147 : decode cX8_byLaw 147 = .ok (.ireturn, 1) := dk_172 (dk_at dksX8_byLaw_6 6 rfl rfl)
abbrev cX8_by : ByteArray := prog_30_method_41_code
def yX8_by : MethodName := ⟨RX8, "by", "(III)I"⟩
def dkwX8_by_4 : List UInt8 := [167, 0, 6, 27, 28, 112, 172, 27, 28, 184, 0, 249, 172, 27, 28, 184, 0, 252, 172]
abbrev dktX8_by_4 : List UInt8 := dkwX8_by_4 ++ []
def dkwX8_by_3 : List UInt8 := [160, 0, 8, 27, 116, 167, 0, 6, 27, 28, 108, 172, 28, 153, 0, 8, 28, 2, 160, 0, 7, 3]
abbrev dktX8_by_3 : List UInt8 := dkwX8_by_3 ++ dktX8_by_4
def dkwX8_by_2 : List UInt8 := [27, 28, 96, 172, 27, 28, 100, 172, 27, 28, 104, 172, 28, 154, 0, 7, 3, 167, 0, 16, 28, 2]
abbrev dktX8_by_2 : List UInt8 := dkwX8_by_2 ++ dktX8_by_3
def dkwX8_by_1 : List UInt8 := [170, 0, 0, 0, 0, 0, 96, 0, 0, 0, 2, 0, 0, 0, 7, 0, 0, 0, 39, 0, 0, 0, 43, 0, 0, 0, 47, 0, 0, 0, 51, 0, 0, 0, 73, 0, 0, 0, 90]
abbrev dktX8_by_1 : List UInt8 := dkwX8_by_1 ++ dktX8_by_2
def dkwX8_by_0 : List UInt8 := [26]
abbrev dktX8_by_0 : List UInt8 := dkwX8_by_0 ++ dktX8_by_1
theorem dksX8_by_0 : cX8_by.data.toList.drop 0 = dktX8_by_0 := by decide +kernel
theorem dksX8_by_1 : cX8_by.data.toList.drop 1 = dktX8_by_1 := dk_seg dksX8_by_0 1 rfl rfl
theorem dksX8_by_2 : cX8_by.data.toList.drop 40 = dktX8_by_2 := dk_seg dksX8_by_1 39 rfl rfl
theorem dksX8_by_3 : cX8_by.data.toList.drop 62 = dktX8_by_3 := dk_seg dksX8_by_2 22 rfl rfl
theorem dksX8_by_4 : cX8_by.data.toList.drop 84 = dktX8_by_4 := dk_seg dksX8_by_3 22 rfl rfl
theorem dX8_by_0 : decode cX8_by 0 = .ok (.iload_n 0, 1) := dk_26 (dk_at dksX8_by_0 0 rfl rfl)
theorem dX8_by_1 : decode cX8_by 1 = .ok (.tableswitch 96 2 7 #[39, 43, 47, 51, 73, 90], 39) := by decide +kernel
theorem dX8_by_40 : decode cX8_by 40 = .ok (.iload_n 1, 1) := dk_27 (dk_at dksX8_by_2 0 rfl rfl)
theorem dX8_by_41 : decode cX8_by 41 = .ok (.iload_n 2, 1) := dk_28 (dk_at dksX8_by_2 1 rfl rfl)
theorem dX8_by_42 : decode cX8_by 42 = .ok (.iadd, 1) := dk_96 (dk_at dksX8_by_2 2 rfl rfl)
theorem dX8_by_43 : decode cX8_by 43 = .ok (.ireturn, 1) := dk_172 (dk_at dksX8_by_2 3 rfl rfl)
theorem dX8_by_44 : decode cX8_by 44 = .ok (.iload_n 1, 1) := dk_27 (dk_at dksX8_by_2 4 rfl rfl)
theorem dX8_by_45 : decode cX8_by 45 = .ok (.iload_n 2, 1) := dk_28 (dk_at dksX8_by_2 5 rfl rfl)
theorem dX8_by_46 : decode cX8_by 46 = .ok (.isub, 1) := dk_100 (dk_at dksX8_by_2 6 rfl rfl)
theorem dX8_by_47 : decode cX8_by 47 = .ok (.ireturn, 1) := dk_172 (dk_at dksX8_by_2 7 rfl rfl)
theorem dX8_by_48 : decode cX8_by 48 = .ok (.iload_n 1, 1) := dk_27 (dk_at dksX8_by_2 8 rfl rfl)
theorem dX8_by_49 : decode cX8_by 49 = .ok (.iload_n 2, 1) := dk_28 (dk_at dksX8_by_2 9 rfl rfl)
theorem dX8_by_50 : decode cX8_by 50 = .ok (.imul, 1) := dk_104 (dk_at dksX8_by_2 10 rfl rfl)
theorem dX8_by_51 : decode cX8_by 51 = .ok (.ireturn, 1) := dk_172 (dk_at dksX8_by_2 11 rfl rfl)
theorem dX8_by_52 : decode cX8_by 52 = .ok (.iload_n 2, 1) := dk_28 (dk_at dksX8_by_2 12 rfl rfl)
theorem dX8_by_53 : decode cX8_by 53 = .ok (.ifCond .ne 7, 3) := dk_154 0 7 (dk_at dksX8_by_2 13 rfl rfl)
theorem dX8_by_56 : decode cX8_by 56 = .ok (.iconst 0, 1) := dk_3 (dk_at dksX8_by_2 16 rfl rfl)
theorem dX8_by_57 : decode cX8_by 57 = .ok (.goto 16, 3) := dk_167 0 16 (dk_at dksX8_by_2 17 rfl rfl)
theorem dX8_by_60 : decode cX8_by 60 = .ok (.iload_n 2, 1) := dk_28 (dk_at dksX8_by_2 20 rfl rfl)
theorem dX8_by_61 : decode cX8_by 61 = .ok (.iconst (-1), 1) := dk_2 (dk_at dksX8_by_2 21 rfl rfl)
theorem dX8_by_62 : decode cX8_by 62 = .ok (.if_icmp .ne 8, 3) := dk_160 0 8 (dk_at dksX8_by_3 0 rfl rfl)
theorem dX8_by_65 : decode cX8_by 65 = .ok (.iload_n 1, 1) := dk_27 (dk_at dksX8_by_3 3 rfl rfl)
theorem dX8_by_66 : decode cX8_by 66 = .ok (.ineg, 1) := dk_116 (dk_at dksX8_by_3 4 rfl rfl)
theorem dX8_by_67 : decode cX8_by 67 = .ok (.goto 6, 3) := dk_167 0 6 (dk_at dksX8_by_3 5 rfl rfl)
theorem dX8_by_70 : decode cX8_by 70 = .ok (.iload_n 1, 1) := dk_27 (dk_at dksX8_by_3 8 rfl rfl)
theorem dX8_by_71 : decode cX8_by 71 = .ok (.iload_n 2, 1) := dk_28 (dk_at dksX8_by_3 9 rfl rfl)
theorem dX8_by_72 : decode cX8_by 72 = .ok (.idiv, 1) := dk_108 (dk_at dksX8_by_3 10 rfl rfl)
theorem dX8_by_73 : decode cX8_by 73 = .ok (.ireturn, 1) := dk_172 (dk_at dksX8_by_3 11 rfl rfl)
theorem dX8_by_74 : decode cX8_by 74 = .ok (.iload_n 2, 1) := dk_28 (dk_at dksX8_by_3 12 rfl rfl)
theorem dX8_by_75 : decode cX8_by 75 = .ok (.ifCond .eq 8, 3) := dk_153 0 8 (dk_at dksX8_by_3 13 rfl rfl)
theorem dX8_by_78 : decode cX8_by 78 = .ok (.iload_n 2, 1) := dk_28 (dk_at dksX8_by_3 16 rfl rfl)
theorem dX8_by_79 : decode cX8_by 79 = .ok (.iconst (-1), 1) := dk_2 (dk_at dksX8_by_3 17 rfl rfl)
theorem dX8_by_80 : decode cX8_by 80 = .ok (.if_icmp .ne 7, 3) := dk_160 0 7 (dk_at dksX8_by_3 18 rfl rfl)
theorem dX8_by_83 : decode cX8_by 83 = .ok (.iconst 0, 1) := dk_3 (dk_at dksX8_by_3 21 rfl rfl)
theorem dX8_by_84 : decode cX8_by 84 = .ok (.goto 6, 3) := dk_167 0 6 (dk_at dksX8_by_4 0 rfl rfl)
theorem dX8_by_87 : decode cX8_by 87 = .ok (.iload_n 1, 1) := dk_27 (dk_at dksX8_by_4 3 rfl rfl)
theorem dX8_by_88 : decode cX8_by 88 = .ok (.iload_n 2, 1) := dk_28 (dk_at dksX8_by_4 4 rfl rfl)
theorem dX8_by_89 : decode cX8_by 89 = .ok (.irem, 1) := dk_112 (dk_at dksX8_by_4 5 rfl rfl)
theorem dX8_by_90 : decode cX8_by 90 = .ok (.ireturn, 1) := dk_172 (dk_at dksX8_by_4 6 rfl rfl)
theorem dX8_by_91 : decode cX8_by 91 = .ok (.iload_n 1, 1) := dk_27 (dk_at dksX8_by_4 7 rfl rfl)
theorem dX8_by_92 : decode cX8_by 92 = .ok (.iload_n 2, 1) := dk_28 (dk_at dksX8_by_4 8 rfl rfl)
theorem dX8_by_93 : decode cX8_by 93 = .ok (.invokestatic 249, 3) := dk_184 0 249 (dk_at dksX8_by_4 9 rfl rfl)
theorem dX8_by_96 : decode cX8_by 96 = .ok (.ireturn, 1) := dk_172 (dk_at dksX8_by_4 12 rfl rfl)
theorem dX8_by_97 : decode cX8_by 97 = .ok (.iload_n 1, 1) := dk_27 (dk_at dksX8_by_4 13 rfl rfl)
theorem dX8_by_98 : decode cX8_by 98 = .ok (.iload_n 2, 1) := dk_28 (dk_at dksX8_by_4 14 rfl rfl)
theorem dX8_by_99 : decode cX8_by 99 = .ok (.invokestatic 252, 3) := dk_184 0 252 (dk_at dksX8_by_4 15 rfl rfl)
theorem dX8_by_102 : decode cX8_by 102 = .ok (.ireturn, 1) := dk_172 (dk_at dksX8_by_4 18 rfl rfl)
abbrev cX8_less : ByteArray := prog_30_method_6_code
def yX8_less : MethodName := ⟨RX8, "less", "(II)I"⟩
def dkwX8_less_0 : List UInt8 := [26, 27, 162, 0, 7, 26, 167, 0, 4, 27, 172]
abbrev dktX8_less_0 : List UInt8 := dkwX8_less_0 ++ []
theorem dksX8_less_0 : cX8_less.data.toList.drop 0 = dktX8_less_0 := by decide +kernel
theorem dX8_less_0 : decode cX8_less 0 = .ok (.iload_n 0, 1) := dk_26 (dk_at dksX8_less_0 0 rfl rfl)
theorem dX8_less_1 : decode cX8_less 1 = .ok (.iload_n 1, 1) := dk_27 (dk_at dksX8_less_0 1 rfl rfl)
theorem dX8_less_2 : decode cX8_less 2 = .ok (.if_icmp .ge 7, 3) := dk_162 0 7 (dk_at dksX8_less_0 2 rfl rfl)
theorem dX8_less_5 : decode cX8_less 5 = .ok (.iload_n 0, 1) := dk_26 (dk_at dksX8_less_0 5 rfl rfl)
theorem dX8_less_6 : decode cX8_less 6 = .ok (.goto 4, 3) := dk_167 0 4 (dk_at dksX8_less_0 6 rfl rfl)
theorem dX8_less_9 : decode cX8_less 9 = .ok (.iload_n 1, 1) := dk_27 (dk_at dksX8_less_0 9 rfl rfl)
theorem dX8_less_10 : decode cX8_less 10 = .ok (.ireturn, 1) := dk_172 (dk_at dksX8_less_0 10 rfl rfl)
abbrev cX8_more : ByteArray := prog_30_method_7_code
def yX8_more : MethodName := ⟨RX8, "more", "(II)I"⟩
def dkwX8_more_0 : List UInt8 := [26, 27, 164, 0, 7, 26, 167, 0, 4, 27, 172]
abbrev dktX8_more_0 : List UInt8 := dkwX8_more_0 ++ []
theorem dksX8_more_0 : cX8_more.data.toList.drop 0 = dktX8_more_0 := by decide +kernel
theorem dX8_more_0 : decode cX8_more 0 = .ok (.iload_n 0, 1) := dk_26 (dk_at dksX8_more_0 0 rfl rfl)
theorem dX8_more_1 : decode cX8_more 1 = .ok (.iload_n 1, 1) := dk_27 (dk_at dksX8_more_0 1 rfl rfl)
theorem dX8_more_2 : decode cX8_more 2 = .ok (.if_icmp .le 7, 3) := dk_164 0 7 (dk_at dksX8_more_0 2 rfl rfl)
theorem dX8_more_5 : decode cX8_more 5 = .ok (.iload_n 0, 1) := dk_26 (dk_at dksX8_more_0 5 rfl rfl)
theorem dX8_more_6 : decode cX8_more 6 = .ok (.goto 4, 3) := dk_167 0 4 (dk_at dksX8_more_0 6 rfl rfl)
theorem dX8_more_9 : decode cX8_more 9 = .ok (.iload_n 1, 1) := dk_27 (dk_at dksX8_more_0 9 rfl rfl)
theorem dX8_more_10 : decode cX8_more 10 = .ok (.ireturn, 1) := dk_172 (dk_at dksX8_more_0 10 rfl rfl)
abbrev cX8_isFight : ByteArray := prog_30_method_49_code
def yX8_isFight : MethodName := ⟨RX8, "isFight", "([III)Z"⟩
def dkwX8_isFight_1 : List UInt8 := [3, 46, 159, 0, 7, 4, 167, 0, 4, 3, 172]
abbrev dktX8_isFight_1 : List UInt8 := dkwX8_isFight_1 ++ []
def dkwX8_isFight_0 : List UInt8 := [42, 43, 28, 29, 182, 1, 15, 153, 0, 26, 42, 180, 0, 49, 28, 50, 3, 46, 42, 180, 0, 49, 29, 50]
abbrev dktX8_isFight_0 : List UInt8 := dkwX8_isFight_0 ++ dktX8_isFight_1
theorem dksX8_isFight_0 : cX8_isFight.data.toList.drop 0 = dktX8_isFight_0 := by decide +kernel
theorem dksX8_isFight_1 : cX8_isFight.data.toList.drop 24 = dktX8_isFight_1 := dk_seg dksX8_isFight_0 24 rfl rfl
theorem dX8_isFight_0 : decode cX8_isFight 0 = .ok (.aload_n 0, 1) := dk_42 (dk_at dksX8_isFight_0 0 rfl rfl)
theorem dX8_isFight_1 : decode cX8_isFight 1 = .ok (.aload_n 1, 1) := dk_43 (dk_at dksX8_isFight_0 1 rfl rfl)
theorem dX8_isFight_2 : decode cX8_isFight 2 = .ok (.iload_n 2, 1) := dk_28 (dk_at dksX8_isFight_0 2 rfl rfl)
theorem dX8_isFight_3 : decode cX8_isFight 3 = .ok (.iload_n 3, 1) := dk_29 (dk_at dksX8_isFight_0 3 rfl rfl)
theorem dX8_isFight_4 : decode cX8_isFight 4 = .ok (.invokevirtual 271, 3) := dk_182 1 15 (dk_at dksX8_isFight_0 4 rfl rfl)
theorem dX8_isFight_7 : decode cX8_isFight 7 = .ok (.ifCond .eq 26, 3) := dk_153 0 26 (dk_at dksX8_isFight_0 7 rfl rfl)
theorem dX8_isFight_10 : decode cX8_isFight 10 = .ok (.aload_n 0, 1) := dk_42 (dk_at dksX8_isFight_0 10 rfl rfl)
theorem dX8_isFight_11 : decode cX8_isFight 11 = .ok (.getfield 49, 3) := dk_180 0 49 (dk_at dksX8_isFight_0 11 rfl rfl)
theorem dX8_isFight_14 : decode cX8_isFight 14 = .ok (.iload_n 2, 1) := dk_28 (dk_at dksX8_isFight_0 14 rfl rfl)
theorem dX8_isFight_15 : decode cX8_isFight 15 = .ok (.aaload, 1) := dk_50 (dk_at dksX8_isFight_0 15 rfl rfl)
theorem dX8_isFight_16 : decode cX8_isFight 16 = .ok (.iconst 0, 1) := dk_3 (dk_at dksX8_isFight_0 16 rfl rfl)
theorem dX8_isFight_17 : decode cX8_isFight 17 = .ok (.iaload, 1) := dk_46 (dk_at dksX8_isFight_0 17 rfl rfl)
theorem dX8_isFight_18 : decode cX8_isFight 18 = .ok (.aload_n 0, 1) := dk_42 (dk_at dksX8_isFight_0 18 rfl rfl)
theorem dX8_isFight_19 : decode cX8_isFight 19 = .ok (.getfield 49, 3) := dk_180 0 49 (dk_at dksX8_isFight_0 19 rfl rfl)
theorem dX8_isFight_22 : decode cX8_isFight 22 = .ok (.iload_n 3, 1) := dk_29 (dk_at dksX8_isFight_0 22 rfl rfl)
theorem dX8_isFight_23 : decode cX8_isFight 23 = .ok (.aaload, 1) := dk_50 (dk_at dksX8_isFight_0 23 rfl rfl)
theorem dX8_isFight_24 : decode cX8_isFight 24 = .ok (.iconst 0, 1) := dk_3 (dk_at dksX8_isFight_1 0 rfl rfl)
theorem dX8_isFight_25 : decode cX8_isFight 25 = .ok (.iaload, 1) := dk_46 (dk_at dksX8_isFight_1 1 rfl rfl)
theorem dX8_isFight_26 : decode cX8_isFight 26 = .ok (.if_icmp .eq 7, 3) := dk_159 0 7 (dk_at dksX8_isFight_1 2 rfl rfl)
theorem dX8_isFight_29 : decode cX8_isFight 29 = .ok (.iconst 1, 1) := dk_4 (dk_at dksX8_isFight_1 5 rfl rfl)
theorem dX8_isFight_30 : decode cX8_isFight 30 = .ok (.goto 4, 3) := dk_167 0 4 (dk_at dksX8_isFight_1 6 rfl rfl)
theorem dX8_isFight_33 : decode cX8_isFight 33 = .ok (.iconst 0, 1) := dk_3 (dk_at dksX8_isFight_1 9 rfl rfl)
theorem dX8_isFight_34 : decode cX8_isFight 34 = .ok (.ireturn, 1) := dk_172 (dk_at dksX8_isFight_1 10 rfl rfl)
abbrev cX8_undo : ByteArray := prog_30_method_60_code
def yX8_undo : MethodName := ⟨RX8, "undo", "()I"⟩
def dkwX8_undo_2 : List UInt8 := [180, 0, 212, 172]
abbrev dktX8_undo_2 : List UInt8 := dkwX8_undo_2 ++ []
def dkwX8_undo_1 : List UInt8 := [42, 180, 0, 82, 42, 180, 0, 212, 50, 42, 180, 0, 73, 184, 1, 63, 42, 3, 181, 0, 215, 42]
abbrev dktX8_undo_1 : List UInt8 := dkwX8_undo_1 ++ dktX8_undo_2
def dkwX8_undo_0 : List UInt8 := [42, 3, 181, 0, 106, 42, 180, 0, 212, 154, 0, 5, 2, 172, 42, 89, 180, 0, 212, 4, 100, 181, 0, 212]
abbrev dktX8_undo_0 : List UInt8 := dkwX8_undo_0 ++ dktX8_undo_1
theorem dksX8_undo_0 : cX8_undo.data.toList.drop 0 = dktX8_undo_0 := by decide +kernel
theorem dksX8_undo_1 : cX8_undo.data.toList.drop 24 = dktX8_undo_1 := dk_seg dksX8_undo_0 24 rfl rfl
theorem dksX8_undo_2 : cX8_undo.data.toList.drop 46 = dktX8_undo_2 := dk_seg dksX8_undo_1 22 rfl rfl
theorem dX8_undo_0 : decode cX8_undo 0 = .ok (.aload_n 0, 1) := dk_42 (dk_at dksX8_undo_0 0 rfl rfl)
theorem dX8_undo_1 : decode cX8_undo 1 = .ok (.iconst 0, 1) := dk_3 (dk_at dksX8_undo_0 1 rfl rfl)
theorem dX8_undo_2 : decode cX8_undo 2 = .ok (.putfield 106, 3) := dk_181 0 106 (dk_at dksX8_undo_0 2 rfl rfl)
theorem dX8_undo_5 : decode cX8_undo 5 = .ok (.aload_n 0, 1) := dk_42 (dk_at dksX8_undo_0 5 rfl rfl)
theorem dX8_undo_6 : decode cX8_undo 6 = .ok (.getfield 212, 3) := dk_180 0 212 (dk_at dksX8_undo_0 6 rfl rfl)
theorem dX8_undo_9 : decode cX8_undo 9 = .ok (.ifCond .ne 5, 3) := dk_154 0 5 (dk_at dksX8_undo_0 9 rfl rfl)
theorem dX8_undo_12 : decode cX8_undo 12 = .ok (.iconst (-1), 1) := dk_2 (dk_at dksX8_undo_0 12 rfl rfl)
theorem dX8_undo_13 : decode cX8_undo 13 = .ok (.ireturn, 1) := dk_172 (dk_at dksX8_undo_0 13 rfl rfl)
theorem dX8_undo_14 : decode cX8_undo 14 = .ok (.aload_n 0, 1) := dk_42 (dk_at dksX8_undo_0 14 rfl rfl)
theorem dX8_undo_15 : decode cX8_undo 15 = .ok (.dup, 1) := dk_89 (dk_at dksX8_undo_0 15 rfl rfl)
theorem dX8_undo_16 : decode cX8_undo 16 = .ok (.getfield 212, 3) := dk_180 0 212 (dk_at dksX8_undo_0 16 rfl rfl)
theorem dX8_undo_19 : decode cX8_undo 19 = .ok (.iconst 1, 1) := dk_4 (dk_at dksX8_undo_0 19 rfl rfl)
theorem dX8_undo_20 : decode cX8_undo 20 = .ok (.isub, 1) := dk_100 (dk_at dksX8_undo_0 20 rfl rfl)
theorem dX8_undo_21 : decode cX8_undo 21 = .ok (.putfield 212, 3) := dk_181 0 212 (dk_at dksX8_undo_0 21 rfl rfl)
theorem dX8_undo_24 : decode cX8_undo 24 = .ok (.aload_n 0, 1) := dk_42 (dk_at dksX8_undo_1 0 rfl rfl)
theorem dX8_undo_25 : decode cX8_undo 25 = .ok (.getfield 82, 3) := dk_180 0 82 (dk_at dksX8_undo_1 1 rfl rfl)
theorem dX8_undo_28 : decode cX8_undo 28 = .ok (.aload_n 0, 1) := dk_42 (dk_at dksX8_undo_1 4 rfl rfl)
theorem dX8_undo_29 : decode cX8_undo 29 = .ok (.getfield 212, 3) := dk_180 0 212 (dk_at dksX8_undo_1 5 rfl rfl)
theorem dX8_undo_32 : decode cX8_undo 32 = .ok (.aaload, 1) := dk_50 (dk_at dksX8_undo_1 8 rfl rfl)
theorem dX8_undo_33 : decode cX8_undo 33 = .ok (.aload_n 0, 1) := dk_42 (dk_at dksX8_undo_1 9 rfl rfl)
theorem dX8_undo_34 : decode cX8_undo 34 = .ok (.getfield 73, 3) := dk_180 0 73 (dk_at dksX8_undo_1 10 rfl rfl)
theorem dX8_undo_37 : decode cX8_undo 37 = .ok (.invokestatic 319, 3) := dk_184 1 63 (dk_at dksX8_undo_1 13 rfl rfl)
theorem dX8_undo_40 : decode cX8_undo 40 = .ok (.aload_n 0, 1) := dk_42 (dk_at dksX8_undo_1 16 rfl rfl)
theorem dX8_undo_41 : decode cX8_undo 41 = .ok (.iconst 0, 1) := dk_3 (dk_at dksX8_undo_1 17 rfl rfl)
theorem dX8_undo_42 : decode cX8_undo 42 = .ok (.putfield 215, 3) := dk_181 0 215 (dk_at dksX8_undo_1 18 rfl rfl)
theorem dX8_undo_45 : decode cX8_undo 45 = .ok (.aload_n 0, 1) := dk_42 (dk_at dksX8_undo_1 21 rfl rfl)
theorem dX8_undo_46 : decode cX8_undo 46 = .ok (.getfield 212, 3) := dk_180 0 212 (dk_at dksX8_undo_2 0 rfl rfl)
theorem dX8_undo_49 : decode cX8_undo 49 = .ok (.ireturn, 1) := dk_172 (dk_at dksX8_undo_2 3 rfl rfl)
abbrev cX8_told : ByteArray := prog_30_method_67_code
def yX8_told : MethodName := ⟨RX8, "told", "(I)I"⟩
def dkwX8_told_8 : List UInt8 := [180, 0, 73, 182, 1, 80, 172]
abbrev dktX8_told_8 : List UInt8 := dkwX8_told_8 ++ []
def dkwX8_told_7 : List UInt8 := [172, 42, 42, 180, 0, 73, 182, 1, 76, 172, 29, 172, 42, 180, 0, 209, 172, 42, 180, 0, 215, 172, 42, 42]
abbrev dktX8_told_7 : List UInt8 := dkwX8_told_7 ++ dktX8_told_8
def dkwX8_told_6 : List UInt8 := [42, 180, 0, 23, 27, 46, 172, 42, 180, 0, 73, 16, 99, 46, 172, 42, 180, 0, 73, 16, 98, 46, 172, 28]
abbrev dktX8_told_6 : List UInt8 := dkwX8_told_6 ++ dktX8_told_7
def dkwX8_told_5 : List UInt8 := [170, 0, 0, 0, 0, 0, 101, 0, 0, 0, 0, 0, 0, 0, 9, 0, 0, 0, 55, 0, 0, 0, 55, 0, 0, 0, 55, 0, 0, 0, 62, 0, 0, 0, 70, 0, 0, 0, 78, 0, 0, 0, 80, 0, 0, 0, 89, 0, 0, 0, 91, 0, 0, 0, 96]
abbrev dktX8_told_5 : List UInt8 := dkwX8_told_5 ++ dktX8_told_6
def dkwX8_told_4 : List UInt8 := [21, 4, 120, 128, 62, 132, 4, 1, 167, 255, 193, 27]
abbrev dktX8_told_4 : List UInt8 := dkwX8_told_4 ++ dktX8_told_5
def dkwX8_told_3 : List UInt8 := [21, 4, 120, 128, 61, 29, 42, 42, 180, 0, 73, 21, 4, 182, 1, 73, 154, 0, 7, 3, 167, 0, 7, 4]
abbrev dktX8_told_3 : List UInt8 := dkwX8_told_3 ++ dktX8_told_4
def dkwX8_told_2 : List UInt8 := [162, 0, 58, 28, 42, 180, 0, 73, 16, 80, 21, 4, 96, 46, 2, 160, 0, 7, 3, 167, 0, 7, 4]
abbrev dktX8_told_2 : List UInt8 := dkwX8_told_2 ++ dktX8_told_3
def dkwX8_told_1 : List UInt8 := [182, 0, 189, 153, 0, 5, 3, 172, 3, 61, 3, 62, 3, 54, 4, 21, 4, 42, 180, 0, 23, 5, 46]
abbrev dktX8_told_1 : List UInt8 := dkwX8_told_1 ++ dktX8_told_2
def dkwX8_told_0 : List UInt8 := [42, 3, 181, 0, 106, 42, 27, 3, 16, 10, 184, 0, 140, 154, 0, 7, 4, 167, 0, 4, 3, 4, 4]
abbrev dktX8_told_0 : List UInt8 := dkwX8_told_0 ++ dktX8_told_1
theorem dksX8_told_0 : cX8_told.data.toList.drop 0 = dktX8_told_0 := by decide +kernel
theorem dksX8_told_1 : cX8_told.data.toList.drop 23 = dktX8_told_1 := dk_seg dksX8_told_0 23 rfl rfl
theorem dksX8_told_2 : cX8_told.data.toList.drop 46 = dktX8_told_2 := dk_seg dksX8_told_1 23 rfl rfl
theorem dksX8_told_3 : cX8_told.data.toList.drop 69 = dktX8_told_3 := dk_seg dksX8_told_2 23 rfl rfl
theorem dksX8_told_4 : cX8_told.data.toList.drop 93 = dktX8_told_4 := dk_seg dksX8_told_3 24 rfl rfl
theorem dksX8_told_5 : cX8_told.data.toList.drop 105 = dktX8_told_5 := dk_seg dksX8_told_4 12 rfl rfl
theorem dksX8_told_6 : cX8_told.data.toList.drop 160 = dktX8_told_6 := dk_seg dksX8_told_5 55 rfl rfl
theorem dksX8_told_7 : cX8_told.data.toList.drop 184 = dktX8_told_7 := dk_seg dksX8_told_6 24 rfl rfl
theorem dksX8_told_8 : cX8_told.data.toList.drop 208 = dktX8_told_8 := dk_seg dksX8_told_7 24 rfl rfl
theorem dX8_told_0 : decode cX8_told 0 = .ok (.aload_n 0, 1) := dk_42 (dk_at dksX8_told_0 0 rfl rfl)
theorem dX8_told_1 : decode cX8_told 1 = .ok (.iconst 0, 1) := dk_3 (dk_at dksX8_told_0 1 rfl rfl)
theorem dX8_told_2 : decode cX8_told 2 = .ok (.putfield 106, 3) := dk_181 0 106 (dk_at dksX8_told_0 2 rfl rfl)
theorem dX8_told_5 : decode cX8_told 5 = .ok (.aload_n 0, 1) := dk_42 (dk_at dksX8_told_0 5 rfl rfl)
theorem dX8_told_6 : decode cX8_told 6 = .ok (.iload_n 1, 1) := dk_27 (dk_at dksX8_told_0 6 rfl rfl)
theorem dX8_told_7 : decode cX8_told 7 = .ok (.iconst 0, 1) := dk_3 (dk_at dksX8_told_0 7 rfl rfl)
theorem dX8_told_8 : decode cX8_told 8 = .ok (.bipush 10, 2) := dk_16 10 (dk_at dksX8_told_0 8 rfl rfl)
theorem dX8_told_10 : decode cX8_told 10 = .ok (.invokestatic 140, 3) := dk_184 0 140 (dk_at dksX8_told_0 10 rfl rfl)
theorem dX8_told_13 : decode cX8_told 13 = .ok (.ifCond .ne 7, 3) := dk_154 0 7 (dk_at dksX8_told_0 13 rfl rfl)
theorem dX8_told_16 : decode cX8_told 16 = .ok (.iconst 1, 1) := dk_4 (dk_at dksX8_told_0 16 rfl rfl)
theorem dX8_told_17 : decode cX8_told 17 = .ok (.goto 4, 3) := dk_167 0 4 (dk_at dksX8_told_0 17 rfl rfl)
theorem dX8_told_20 : decode cX8_told 20 = .ok (.iconst 0, 1) := dk_3 (dk_at dksX8_told_0 20 rfl rfl)
theorem dX8_told_21 : decode cX8_told 21 = .ok (.iconst 1, 1) := dk_4 (dk_at dksX8_told_0 21 rfl rfl)
theorem dX8_told_22 : decode cX8_told 22 = .ok (.iconst 1, 1) := dk_4 (dk_at dksX8_told_0 22 rfl rfl)
theorem dX8_told_23 : decode cX8_told 23 = .ok (.invokevirtual 189, 3) := dk_182 0 189 (dk_at dksX8_told_1 0 rfl rfl)
theorem dX8_told_26 : decode cX8_told 26 = .ok (.ifCond .eq 5, 3) := dk_153 0 5 (dk_at dksX8_told_1 3 rfl rfl)
theorem dX8_told_29 : decode cX8_told 29 = .ok (.iconst 0, 1) := dk_3 (dk_at dksX8_told_1 6 rfl rfl)
theorem dX8_told_30 : decode cX8_told 30 = .ok (.ireturn, 1) := dk_172 (dk_at dksX8_told_1 7 rfl rfl)
theorem dX8_told_31 : decode cX8_told 31 = .ok (.iconst 0, 1) := dk_3 (dk_at dksX8_told_1 8 rfl rfl)
theorem dX8_told_32 : decode cX8_told 32 = .ok (.istore_n 2, 1) := dk_61 (dk_at dksX8_told_1 9 rfl rfl)
theorem dX8_told_33 : decode cX8_told 33 = .ok (.iconst 0, 1) := dk_3 (dk_at dksX8_told_1 10 rfl rfl)
theorem dX8_told_34 : decode cX8_told 34 = .ok (.istore_n 3, 1) := dk_62 (dk_at dksX8_told_1 11 rfl rfl)
theorem dX8_told_35 : decode cX8_told 35 = .ok (.iconst 0, 1) := dk_3 (dk_at dksX8_told_1 12 rfl rfl)
theorem dX8_told_36 : decode cX8_told 36 = .ok (.istore 4, 2) := dk_54 4 (dk_at dksX8_told_1 13 rfl rfl)
theorem dX8_told_38 : decode cX8_told 38 = .ok (.iload 4, 2) := dk_21 4 (dk_at dksX8_told_1 15 rfl rfl)
theorem dX8_told_40 : decode cX8_told 40 = .ok (.aload_n 0, 1) := dk_42 (dk_at dksX8_told_1 17 rfl rfl)
theorem dX8_told_41 : decode cX8_told 41 = .ok (.getfield 23, 3) := dk_180 0 23 (dk_at dksX8_told_1 18 rfl rfl)
theorem dX8_told_44 : decode cX8_told 44 = .ok (.iconst 2, 1) := dk_5 (dk_at dksX8_told_1 21 rfl rfl)
theorem dX8_told_45 : decode cX8_told 45 = .ok (.iaload, 1) := dk_46 (dk_at dksX8_told_1 22 rfl rfl)
theorem dX8_told_46 : decode cX8_told 46 = .ok (.if_icmp .ge 58, 3) := dk_162 0 58 (dk_at dksX8_told_2 0 rfl rfl)
theorem dX8_told_49 : decode cX8_told 49 = .ok (.iload_n 2, 1) := dk_28 (dk_at dksX8_told_2 3 rfl rfl)
theorem dX8_told_50 : decode cX8_told 50 = .ok (.aload_n 0, 1) := dk_42 (dk_at dksX8_told_2 4 rfl rfl)
theorem dX8_told_51 : decode cX8_told 51 = .ok (.getfield 73, 3) := dk_180 0 73 (dk_at dksX8_told_2 5 rfl rfl)
theorem dX8_told_54 : decode cX8_told 54 = .ok (.bipush 80, 2) := dk_16 80 (dk_at dksX8_told_2 8 rfl rfl)
theorem dX8_told_56 : decode cX8_told 56 = .ok (.iload 4, 2) := dk_21 4 (dk_at dksX8_told_2 10 rfl rfl)
theorem dX8_told_58 : decode cX8_told 58 = .ok (.iadd, 1) := dk_96 (dk_at dksX8_told_2 12 rfl rfl)
theorem dX8_told_59 : decode cX8_told 59 = .ok (.iaload, 1) := dk_46 (dk_at dksX8_told_2 13 rfl rfl)
theorem dX8_told_60 : decode cX8_told 60 = .ok (.iconst (-1), 1) := dk_2 (dk_at dksX8_told_2 14 rfl rfl)
theorem dX8_told_61 : decode cX8_told 61 = .ok (.if_icmp .ne 7, 3) := dk_160 0 7 (dk_at dksX8_told_2 15 rfl rfl)
theorem dX8_told_64 : decode cX8_told 64 = .ok (.iconst 0, 1) := dk_3 (dk_at dksX8_told_2 18 rfl rfl)
theorem dX8_told_65 : decode cX8_told 65 = .ok (.goto 7, 3) := dk_167 0 7 (dk_at dksX8_told_2 19 rfl rfl)
theorem dX8_told_68 : decode cX8_told 68 = .ok (.iconst 1, 1) := dk_4 (dk_at dksX8_told_2 22 rfl rfl)
theorem dX8_told_69 : decode cX8_told 69 = .ok (.iload 4, 2) := dk_21 4 (dk_at dksX8_told_3 0 rfl rfl)
theorem dX8_told_71 : decode cX8_told 71 = .ok (.ishl, 1) := dk_120 (dk_at dksX8_told_3 2 rfl rfl)
theorem dX8_told_72 : decode cX8_told 72 = .ok (.ior, 1) := dk_128 (dk_at dksX8_told_3 3 rfl rfl)
theorem dX8_told_73 : decode cX8_told 73 = .ok (.istore_n 2, 1) := dk_61 (dk_at dksX8_told_3 4 rfl rfl)
theorem dX8_told_74 : decode cX8_told 74 = .ok (.iload_n 3, 1) := dk_29 (dk_at dksX8_told_3 5 rfl rfl)
theorem dX8_told_75 : decode cX8_told 75 = .ok (.aload_n 0, 1) := dk_42 (dk_at dksX8_told_3 6 rfl rfl)
theorem dX8_told_76 : decode cX8_told 76 = .ok (.aload_n 0, 1) := dk_42 (dk_at dksX8_told_3 7 rfl rfl)
theorem dX8_told_77 : decode cX8_told 77 = .ok (.getfield 73, 3) := dk_180 0 73 (dk_at dksX8_told_3 8 rfl rfl)
theorem dX8_told_80 : decode cX8_told 80 = .ok (.iload 4, 2) := dk_21 4 (dk_at dksX8_told_3 11 rfl rfl)
theorem dX8_told_82 : decode cX8_told 82 = .ok (.invokevirtual 329, 3) := dk_182 1 73 (dk_at dksX8_told_3 13 rfl rfl)
theorem dX8_told_85 : decode cX8_told 85 = .ok (.ifCond .ne 7, 3) := dk_154 0 7 (dk_at dksX8_told_3 16 rfl rfl)
theorem dX8_told_88 : decode cX8_told 88 = .ok (.iconst 0, 1) := dk_3 (dk_at dksX8_told_3 19 rfl rfl)
theorem dX8_told_89 : decode cX8_told 89 = .ok (.goto 7, 3) := dk_167 0 7 (dk_at dksX8_told_3 20 rfl rfl)
theorem dX8_told_92 : decode cX8_told 92 = .ok (.iconst 1, 1) := dk_4 (dk_at dksX8_told_3 23 rfl rfl)
theorem dX8_told_93 : decode cX8_told 93 = .ok (.iload 4, 2) := dk_21 4 (dk_at dksX8_told_4 0 rfl rfl)
theorem dX8_told_95 : decode cX8_told 95 = .ok (.ishl, 1) := dk_120 (dk_at dksX8_told_4 2 rfl rfl)
theorem dX8_told_96 : decode cX8_told 96 = .ok (.ior, 1) := dk_128 (dk_at dksX8_told_4 3 rfl rfl)
theorem dX8_told_97 : decode cX8_told 97 = .ok (.istore_n 3, 1) := dk_62 (dk_at dksX8_told_4 4 rfl rfl)
theorem dX8_told_98 : decode cX8_told 98 = .ok (.iinc 4 1, 3) := dk_132 4 1 (dk_at dksX8_told_4 5 rfl rfl)
theorem dX8_told_101 : decode cX8_told 101 = .ok (.goto (-63), 3) := dk_167 255 193 (dk_at dksX8_told_4 8 rfl rfl)
theorem dX8_told_104 : decode cX8_told 104 = .ok (.iload_n 1, 1) := dk_27 (dk_at dksX8_told_4 11 rfl rfl)
theorem dX8_told_105 : decode cX8_told 105 = .ok (.tableswitch 101 0 9 #[55, 55, 55, 62, 70, 78, 80, 89, 91, 96], 55) := by decide +kernel
theorem dX8_told_160 : decode cX8_told 160 = .ok (.aload_n 0, 1) := dk_42 (dk_at dksX8_told_6 0 rfl rfl)
theorem dX8_told_161 : decode cX8_told 161 = .ok (.getfield 23, 3) := dk_180 0 23 (dk_at dksX8_told_6 1 rfl rfl)
theorem dX8_told_164 : decode cX8_told 164 = .ok (.iload_n 1, 1) := dk_27 (dk_at dksX8_told_6 4 rfl rfl)
theorem dX8_told_165 : decode cX8_told 165 = .ok (.iaload, 1) := dk_46 (dk_at dksX8_told_6 5 rfl rfl)
theorem dX8_told_166 : decode cX8_told 166 = .ok (.ireturn, 1) := dk_172 (dk_at dksX8_told_6 6 rfl rfl)
theorem dX8_told_167 : decode cX8_told 167 = .ok (.aload_n 0, 1) := dk_42 (dk_at dksX8_told_6 7 rfl rfl)
theorem dX8_told_168 : decode cX8_told 168 = .ok (.getfield 73, 3) := dk_180 0 73 (dk_at dksX8_told_6 8 rfl rfl)
theorem dX8_told_171 : decode cX8_told 171 = .ok (.bipush 99, 2) := dk_16 99 (dk_at dksX8_told_6 11 rfl rfl)
theorem dX8_told_173 : decode cX8_told 173 = .ok (.iaload, 1) := dk_46 (dk_at dksX8_told_6 13 rfl rfl)
theorem dX8_told_174 : decode cX8_told 174 = .ok (.ireturn, 1) := dk_172 (dk_at dksX8_told_6 14 rfl rfl)
theorem dX8_told_175 : decode cX8_told 175 = .ok (.aload_n 0, 1) := dk_42 (dk_at dksX8_told_6 15 rfl rfl)
theorem dX8_told_176 : decode cX8_told 176 = .ok (.getfield 73, 3) := dk_180 0 73 (dk_at dksX8_told_6 16 rfl rfl)
theorem dX8_told_179 : decode cX8_told 179 = .ok (.bipush 98, 2) := dk_16 98 (dk_at dksX8_told_6 19 rfl rfl)
theorem dX8_told_181 : decode cX8_told 181 = .ok (.iaload, 1) := dk_46 (dk_at dksX8_told_6 21 rfl rfl)
theorem dX8_told_182 : decode cX8_told 182 = .ok (.ireturn, 1) := dk_172 (dk_at dksX8_told_6 22 rfl rfl)
theorem dX8_told_183 : decode cX8_told 183 = .ok (.iload_n 2, 1) := dk_28 (dk_at dksX8_told_6 23 rfl rfl)
theorem dX8_told_184 : decode cX8_told 184 = .ok (.ireturn, 1) := dk_172 (dk_at dksX8_told_7 0 rfl rfl)
theorem dX8_told_185 : decode cX8_told 185 = .ok (.aload_n 0, 1) := dk_42 (dk_at dksX8_told_7 1 rfl rfl)
theorem dX8_told_186 : decode cX8_told 186 = .ok (.aload_n 0, 1) := dk_42 (dk_at dksX8_told_7 2 rfl rfl)
theorem dX8_told_187 : decode cX8_told 187 = .ok (.getfield 73, 3) := dk_180 0 73 (dk_at dksX8_told_7 3 rfl rfl)
theorem dX8_told_190 : decode cX8_told 190 = .ok (.invokevirtual 332, 3) := dk_182 1 76 (dk_at dksX8_told_7 6 rfl rfl)
theorem dX8_told_193 : decode cX8_told 193 = .ok (.ireturn, 1) := dk_172 (dk_at dksX8_told_7 9 rfl rfl)
theorem dX8_told_194 : decode cX8_told 194 = .ok (.iload_n 3, 1) := dk_29 (dk_at dksX8_told_7 10 rfl rfl)
theorem dX8_told_195 : decode cX8_told 195 = .ok (.ireturn, 1) := dk_172 (dk_at dksX8_told_7 11 rfl rfl)
theorem dX8_told_196 : decode cX8_told 196 = .ok (.aload_n 0, 1) := dk_42 (dk_at dksX8_told_7 12 rfl rfl)
theorem dX8_told_197 : decode cX8_told 197 = .ok (.getfield 209, 3) := dk_180 0 209 (dk_at dksX8_told_7 13 rfl rfl)
theorem dX8_told_200 : decode cX8_told 200 = .ok (.ireturn, 1) := dk_172 (dk_at dksX8_told_7 16 rfl rfl)
theorem dX8_told_201 : decode cX8_told 201 = .ok (.aload_n 0, 1) := dk_42 (dk_at dksX8_told_7 17 rfl rfl)
theorem dX8_told_202 : decode cX8_told 202 = .ok (.getfield 215, 3) := dk_180 0 215 (dk_at dksX8_told_7 18 rfl rfl)
theorem dX8_told_205 : decode cX8_told 205 = .ok (.ireturn, 1) := dk_172 (dk_at dksX8_told_7 21 rfl rfl)
theorem dX8_told_206 : decode cX8_told 206 = .ok (.aload_n 0, 1) := dk_42 (dk_at dksX8_told_7 22 rfl rfl)
theorem dX8_told_207 : decode cX8_told 207 = .ok (.aload_n 0, 1) := dk_42 (dk_at dksX8_told_7 23 rfl rfl)
theorem dX8_told_208 : decode cX8_told 208 = .ok (.getfield 73, 3) := dk_180 0 73 (dk_at dksX8_told_8 0 rfl rfl)
theorem dX8_told_211 : decode cX8_told 211 = .ok (.invokevirtual 336, 3) := dk_182 1 80 (dk_at dksX8_told_8 3 rfl rfl)
theorem dX8_told_214 : decode cX8_told 214 = .ok (.ireturn, 1) := dk_172 (dk_at dksX8_told_8 6 rfl rfl)
abbrev cX8_fightsOf : ByteArray := prog_30_method_66_code
def yX8_fightsOf : MethodName := ⟨RX8, "fightsOf", "([II)I"⟩
def dkwX8_fightsOf_1 : List UInt8 := [182, 1, 34, 153, 0, 10, 4, 21, 4, 120, 167, 0, 4, 3, 128, 62, 132, 4, 1, 167, 255, 220, 29, 172]
abbrev dktX8_fightsOf_1 : List UInt8 := dkwX8_fightsOf_1 ++ []
def dkwX8_fightsOf_0 : List UInt8 := [3, 62, 3, 54, 4, 21, 4, 42, 180, 0, 23, 5, 46, 162, 0, 31, 29, 42, 43, 28, 21, 4]
abbrev dktX8_fightsOf_0 : List UInt8 := dkwX8_fightsOf_0 ++ dktX8_fightsOf_1
theorem dksX8_fightsOf_0 : cX8_fightsOf.data.toList.drop 0 = dktX8_fightsOf_0 := by decide +kernel
theorem dksX8_fightsOf_1 : cX8_fightsOf.data.toList.drop 22 = dktX8_fightsOf_1 := dk_seg dksX8_fightsOf_0 22 rfl rfl
theorem dX8_fightsOf_0 : decode cX8_fightsOf 0 = .ok (.iconst 0, 1) := dk_3 (dk_at dksX8_fightsOf_0 0 rfl rfl)
theorem dX8_fightsOf_1 : decode cX8_fightsOf 1 = .ok (.istore_n 3, 1) := dk_62 (dk_at dksX8_fightsOf_0 1 rfl rfl)
theorem dX8_fightsOf_2 : decode cX8_fightsOf 2 = .ok (.iconst 0, 1) := dk_3 (dk_at dksX8_fightsOf_0 2 rfl rfl)
theorem dX8_fightsOf_3 : decode cX8_fightsOf 3 = .ok (.istore 4, 2) := dk_54 4 (dk_at dksX8_fightsOf_0 3 rfl rfl)
theorem dX8_fightsOf_5 : decode cX8_fightsOf 5 = .ok (.iload 4, 2) := dk_21 4 (dk_at dksX8_fightsOf_0 5 rfl rfl)
theorem dX8_fightsOf_7 : decode cX8_fightsOf 7 = .ok (.aload_n 0, 1) := dk_42 (dk_at dksX8_fightsOf_0 7 rfl rfl)
theorem dX8_fightsOf_8 : decode cX8_fightsOf 8 = .ok (.getfield 23, 3) := dk_180 0 23 (dk_at dksX8_fightsOf_0 8 rfl rfl)
theorem dX8_fightsOf_11 : decode cX8_fightsOf 11 = .ok (.iconst 2, 1) := dk_5 (dk_at dksX8_fightsOf_0 11 rfl rfl)
theorem dX8_fightsOf_12 : decode cX8_fightsOf 12 = .ok (.iaload, 1) := dk_46 (dk_at dksX8_fightsOf_0 12 rfl rfl)
theorem dX8_fightsOf_13 : decode cX8_fightsOf 13 = .ok (.if_icmp .ge 31, 3) := dk_162 0 31 (dk_at dksX8_fightsOf_0 13 rfl rfl)
theorem dX8_fightsOf_16 : decode cX8_fightsOf 16 = .ok (.iload_n 3, 1) := dk_29 (dk_at dksX8_fightsOf_0 16 rfl rfl)
theorem dX8_fightsOf_17 : decode cX8_fightsOf 17 = .ok (.aload_n 0, 1) := dk_42 (dk_at dksX8_fightsOf_0 17 rfl rfl)
theorem dX8_fightsOf_18 : decode cX8_fightsOf 18 = .ok (.aload_n 1, 1) := dk_43 (dk_at dksX8_fightsOf_0 18 rfl rfl)
theorem dX8_fightsOf_19 : decode cX8_fightsOf 19 = .ok (.iload_n 2, 1) := dk_28 (dk_at dksX8_fightsOf_0 19 rfl rfl)
theorem dX8_fightsOf_20 : decode cX8_fightsOf 20 = .ok (.iload 4, 2) := dk_21 4 (dk_at dksX8_fightsOf_0 20 rfl rfl)
theorem dX8_fightsOf_22 : decode cX8_fightsOf 22 = .ok (.invokevirtual 290, 3) := dk_182 1 34 (dk_at dksX8_fightsOf_1 0 rfl rfl)
theorem dX8_fightsOf_25 : decode cX8_fightsOf 25 = .ok (.ifCond .eq 10, 3) := dk_153 0 10 (dk_at dksX8_fightsOf_1 3 rfl rfl)
theorem dX8_fightsOf_28 : decode cX8_fightsOf 28 = .ok (.iconst 1, 1) := dk_4 (dk_at dksX8_fightsOf_1 6 rfl rfl)
theorem dX8_fightsOf_29 : decode cX8_fightsOf 29 = .ok (.iload 4, 2) := dk_21 4 (dk_at dksX8_fightsOf_1 7 rfl rfl)
theorem dX8_fightsOf_31 : decode cX8_fightsOf 31 = .ok (.ishl, 1) := dk_120 (dk_at dksX8_fightsOf_1 9 rfl rfl)
theorem dX8_fightsOf_32 : decode cX8_fightsOf 32 = .ok (.goto 4, 3) := dk_167 0 4 (dk_at dksX8_fightsOf_1 10 rfl rfl)
theorem dX8_fightsOf_35 : decode cX8_fightsOf 35 = .ok (.iconst 0, 1) := dk_3 (dk_at dksX8_fightsOf_1 13 rfl rfl)
theorem dX8_fightsOf_36 : decode cX8_fightsOf 36 = .ok (.ior, 1) := dk_128 (dk_at dksX8_fightsOf_1 14 rfl rfl)
theorem dX8_fightsOf_37 : decode cX8_fightsOf 37 = .ok (.istore_n 3, 1) := dk_62 (dk_at dksX8_fightsOf_1 15 rfl rfl)
theorem dX8_fightsOf_38 : decode cX8_fightsOf 38 = .ok (.iinc 4 1, 3) := dk_132 4 1 (dk_at dksX8_fightsOf_1 16 rfl rfl)
theorem dX8_fightsOf_41 : decode cX8_fightsOf 41 = .ok (.goto (-36), 3) := dk_167 255 220 (dk_at dksX8_fightsOf_1 19 rfl rfl)
theorem dX8_fightsOf_44 : decode cX8_fightsOf 44 = .ok (.iload_n 3, 1) := dk_29 (dk_at dksX8_fightsOf_1 22 rfl rfl)
theorem dX8_fightsOf_45 : decode cX8_fightsOf 45 = .ok (.ireturn, 1) := dk_172 (dk_at dksX8_fightsOf_1 23 rfl rfl)
abbrev cX8_wishedIn : ByteArray := prog_30_method_63_code
def yX8_wishedIn : MethodName := ⟨RX8, "wishedIn", "([I)I"⟩
def dkwX8_wishedIn_1 : List UInt8 := [182, 1, 70, 160, 0, 9, 4, 29, 120, 167, 0, 4, 3, 128, 61, 132, 3, 1, 167, 255, 218, 28, 172]
abbrev dktX8_wishedIn_1 : List UInt8 := dkwX8_wishedIn_1 ++ []
def dkwX8_wishedIn_0 : List UInt8 := [3, 61, 3, 62, 29, 42, 180, 0, 23, 3, 46, 162, 0, 34, 28, 42, 180, 0, 35, 29, 46, 42, 43, 29]
abbrev dktX8_wishedIn_0 : List UInt8 := dkwX8_wishedIn_0 ++ dktX8_wishedIn_1
theorem dksX8_wishedIn_0 : cX8_wishedIn.data.toList.drop 0 = dktX8_wishedIn_0 := by decide +kernel
theorem dksX8_wishedIn_1 : cX8_wishedIn.data.toList.drop 24 = dktX8_wishedIn_1 := dk_seg dksX8_wishedIn_0 24 rfl rfl
theorem dX8_wishedIn_0 : decode cX8_wishedIn 0 = .ok (.iconst 0, 1) := dk_3 (dk_at dksX8_wishedIn_0 0 rfl rfl)
theorem dX8_wishedIn_1 : decode cX8_wishedIn 1 = .ok (.istore_n 2, 1) := dk_61 (dk_at dksX8_wishedIn_0 1 rfl rfl)
theorem dX8_wishedIn_2 : decode cX8_wishedIn 2 = .ok (.iconst 0, 1) := dk_3 (dk_at dksX8_wishedIn_0 2 rfl rfl)
theorem dX8_wishedIn_3 : decode cX8_wishedIn 3 = .ok (.istore_n 3, 1) := dk_62 (dk_at dksX8_wishedIn_0 3 rfl rfl)
theorem dX8_wishedIn_4 : decode cX8_wishedIn 4 = .ok (.iload_n 3, 1) := dk_29 (dk_at dksX8_wishedIn_0 4 rfl rfl)
theorem dX8_wishedIn_5 : decode cX8_wishedIn 5 = .ok (.aload_n 0, 1) := dk_42 (dk_at dksX8_wishedIn_0 5 rfl rfl)
theorem dX8_wishedIn_6 : decode cX8_wishedIn 6 = .ok (.getfield 23, 3) := dk_180 0 23 (dk_at dksX8_wishedIn_0 6 rfl rfl)
theorem dX8_wishedIn_9 : decode cX8_wishedIn 9 = .ok (.iconst 0, 1) := dk_3 (dk_at dksX8_wishedIn_0 9 rfl rfl)
theorem dX8_wishedIn_10 : decode cX8_wishedIn 10 = .ok (.iaload, 1) := dk_46 (dk_at dksX8_wishedIn_0 10 rfl rfl)
theorem dX8_wishedIn_11 : decode cX8_wishedIn 11 = .ok (.if_icmp .ge 34, 3) := dk_162 0 34 (dk_at dksX8_wishedIn_0 11 rfl rfl)
theorem dX8_wishedIn_14 : decode cX8_wishedIn 14 = .ok (.iload_n 2, 1) := dk_28 (dk_at dksX8_wishedIn_0 14 rfl rfl)
theorem dX8_wishedIn_15 : decode cX8_wishedIn 15 = .ok (.aload_n 0, 1) := dk_42 (dk_at dksX8_wishedIn_0 15 rfl rfl)
theorem dX8_wishedIn_16 : decode cX8_wishedIn 16 = .ok (.getfield 35, 3) := dk_180 0 35 (dk_at dksX8_wishedIn_0 16 rfl rfl)
theorem dX8_wishedIn_19 : decode cX8_wishedIn 19 = .ok (.iload_n 3, 1) := dk_29 (dk_at dksX8_wishedIn_0 19 rfl rfl)
theorem dX8_wishedIn_20 : decode cX8_wishedIn 20 = .ok (.iaload, 1) := dk_46 (dk_at dksX8_wishedIn_0 20 rfl rfl)
theorem dX8_wishedIn_21 : decode cX8_wishedIn 21 = .ok (.aload_n 0, 1) := dk_42 (dk_at dksX8_wishedIn_0 21 rfl rfl)
theorem dX8_wishedIn_22 : decode cX8_wishedIn 22 = .ok (.aload_n 1, 1) := dk_43 (dk_at dksX8_wishedIn_0 22 rfl rfl)
theorem dX8_wishedIn_23 : decode cX8_wishedIn 23 = .ok (.iload_n 3, 1) := dk_29 (dk_at dksX8_wishedIn_0 23 rfl rfl)
theorem dX8_wishedIn_24 : decode cX8_wishedIn 24 = .ok (.invokevirtual 326, 3) := dk_182 1 70 (dk_at dksX8_wishedIn_1 0 rfl rfl)
theorem dX8_wishedIn_27 : decode cX8_wishedIn 27 = .ok (.if_icmp .ne 9, 3) := dk_160 0 9 (dk_at dksX8_wishedIn_1 3 rfl rfl)
theorem dX8_wishedIn_30 : decode cX8_wishedIn 30 = .ok (.iconst 1, 1) := dk_4 (dk_at dksX8_wishedIn_1 6 rfl rfl)
theorem dX8_wishedIn_31 : decode cX8_wishedIn 31 = .ok (.iload_n 3, 1) := dk_29 (dk_at dksX8_wishedIn_1 7 rfl rfl)
theorem dX8_wishedIn_32 : decode cX8_wishedIn 32 = .ok (.ishl, 1) := dk_120 (dk_at dksX8_wishedIn_1 8 rfl rfl)
theorem dX8_wishedIn_33 : decode cX8_wishedIn 33 = .ok (.goto 4, 3) := dk_167 0 4 (dk_at dksX8_wishedIn_1 9 rfl rfl)
theorem dX8_wishedIn_36 : decode cX8_wishedIn 36 = .ok (.iconst 0, 1) := dk_3 (dk_at dksX8_wishedIn_1 12 rfl rfl)
theorem dX8_wishedIn_37 : decode cX8_wishedIn 37 = .ok (.ior, 1) := dk_128 (dk_at dksX8_wishedIn_1 13 rfl rfl)
theorem dX8_wishedIn_38 : decode cX8_wishedIn 38 = .ok (.istore_n 2, 1) := dk_61 (dk_at dksX8_wishedIn_1 14 rfl rfl)
theorem dX8_wishedIn_39 : decode cX8_wishedIn 39 = .ok (.iinc 3 1, 3) := dk_132 3 1 (dk_at dksX8_wishedIn_1 15 rfl rfl)
theorem dX8_wishedIn_42 : decode cX8_wishedIn 42 = .ok (.goto (-38), 3) := dk_167 255 218 (dk_at dksX8_wishedIn_1 18 rfl rfl)
theorem dX8_wishedIn_45 : decode cX8_wishedIn 45 = .ok (.iload_n 2, 1) := dk_28 (dk_at dksX8_wishedIn_1 21 rfl rfl)
theorem dX8_wishedIn_46 : decode cX8_wishedIn 46 = .ok (.ireturn, 1) := dk_172 (dk_at dksX8_wishedIn_1 22 rfl rfl)
abbrev cX8_thingOf : ByteArray := prog_30_method_62_code
def yX8_thingOf : MethodName := ⟨RX8, "thingOf", "([II)I"⟩
def dkwX8_thingOf_1 : List UInt8 := [182, 1, 67, 164, 0, 8, 21, 4, 167, 0, 4, 29, 62, 132, 4, 1, 167, 255, 221, 29, 172]
abbrev dktX8_thingOf_1 : List UInt8 := dkwX8_thingOf_1 ++ []
def dkwX8_thingOf_0 : List UInt8 := [3, 62, 4, 54, 4, 21, 4, 16, 10, 162, 0, 34, 42, 43, 28, 21, 4, 182, 1, 67, 42, 43, 28, 29]
abbrev dktX8_thingOf_0 : List UInt8 := dkwX8_thingOf_0 ++ dktX8_thingOf_1
theorem dksX8_thingOf_0 : cX8_thingOf.data.toList.drop 0 = dktX8_thingOf_0 := by decide +kernel
theorem dksX8_thingOf_1 : cX8_thingOf.data.toList.drop 24 = dktX8_thingOf_1 := dk_seg dksX8_thingOf_0 24 rfl rfl
theorem dX8_thingOf_0 : decode cX8_thingOf 0 = .ok (.iconst 0, 1) := dk_3 (dk_at dksX8_thingOf_0 0 rfl rfl)
theorem dX8_thingOf_1 : decode cX8_thingOf 1 = .ok (.istore_n 3, 1) := dk_62 (dk_at dksX8_thingOf_0 1 rfl rfl)
theorem dX8_thingOf_2 : decode cX8_thingOf 2 = .ok (.iconst 1, 1) := dk_4 (dk_at dksX8_thingOf_0 2 rfl rfl)
theorem dX8_thingOf_3 : decode cX8_thingOf 3 = .ok (.istore 4, 2) := dk_54 4 (dk_at dksX8_thingOf_0 3 rfl rfl)
theorem dX8_thingOf_5 : decode cX8_thingOf 5 = .ok (.iload 4, 2) := dk_21 4 (dk_at dksX8_thingOf_0 5 rfl rfl)
theorem dX8_thingOf_7 : decode cX8_thingOf 7 = .ok (.bipush 10, 2) := dk_16 10 (dk_at dksX8_thingOf_0 7 rfl rfl)
theorem dX8_thingOf_9 : decode cX8_thingOf 9 = .ok (.if_icmp .ge 34, 3) := dk_162 0 34 (dk_at dksX8_thingOf_0 9 rfl rfl)
theorem dX8_thingOf_12 : decode cX8_thingOf 12 = .ok (.aload_n 0, 1) := dk_42 (dk_at dksX8_thingOf_0 12 rfl rfl)
theorem dX8_thingOf_13 : decode cX8_thingOf 13 = .ok (.aload_n 1, 1) := dk_43 (dk_at dksX8_thingOf_0 13 rfl rfl)
theorem dX8_thingOf_14 : decode cX8_thingOf 14 = .ok (.iload_n 2, 1) := dk_28 (dk_at dksX8_thingOf_0 14 rfl rfl)
theorem dX8_thingOf_15 : decode cX8_thingOf 15 = .ok (.iload 4, 2) := dk_21 4 (dk_at dksX8_thingOf_0 15 rfl rfl)
theorem dX8_thingOf_17 : decode cX8_thingOf 17 = .ok (.invokevirtual 323, 3) := dk_182 1 67 (dk_at dksX8_thingOf_0 17 rfl rfl)
theorem dX8_thingOf_20 : decode cX8_thingOf 20 = .ok (.aload_n 0, 1) := dk_42 (dk_at dksX8_thingOf_0 20 rfl rfl)
theorem dX8_thingOf_21 : decode cX8_thingOf 21 = .ok (.aload_n 1, 1) := dk_43 (dk_at dksX8_thingOf_0 21 rfl rfl)
theorem dX8_thingOf_22 : decode cX8_thingOf 22 = .ok (.iload_n 2, 1) := dk_28 (dk_at dksX8_thingOf_0 22 rfl rfl)
theorem dX8_thingOf_23 : decode cX8_thingOf 23 = .ok (.iload_n 3, 1) := dk_29 (dk_at dksX8_thingOf_0 23 rfl rfl)
theorem dX8_thingOf_24 : decode cX8_thingOf 24 = .ok (.invokevirtual 323, 3) := dk_182 1 67 (dk_at dksX8_thingOf_1 0 rfl rfl)
theorem dX8_thingOf_27 : decode cX8_thingOf 27 = .ok (.if_icmp .le 8, 3) := dk_164 0 8 (dk_at dksX8_thingOf_1 3 rfl rfl)
theorem dX8_thingOf_30 : decode cX8_thingOf 30 = .ok (.iload 4, 2) := dk_21 4 (dk_at dksX8_thingOf_1 6 rfl rfl)
theorem dX8_thingOf_32 : decode cX8_thingOf 32 = .ok (.goto 4, 3) := dk_167 0 4 (dk_at dksX8_thingOf_1 8 rfl rfl)
theorem dX8_thingOf_35 : decode cX8_thingOf 35 = .ok (.iload_n 3, 1) := dk_29 (dk_at dksX8_thingOf_1 11 rfl rfl)
theorem dX8_thingOf_36 : decode cX8_thingOf 36 = .ok (.istore_n 3, 1) := dk_62 (dk_at dksX8_thingOf_1 12 rfl rfl)
theorem dX8_thingOf_37 : decode cX8_thingOf 37 = .ok (.iinc 4 1, 3) := dk_132 4 1 (dk_at dksX8_thingOf_1 13 rfl rfl)
theorem dX8_thingOf_40 : decode cX8_thingOf 40 = .ok (.goto (-35), 3) := dk_167 255 221 (dk_at dksX8_thingOf_1 16 rfl rfl)
theorem dX8_thingOf_43 : decode cX8_thingOf 43 = .ok (.iload_n 3, 1) := dk_29 (dk_at dksX8_thingOf_1 19 rfl rfl)
theorem dX8_thingOf_44 : decode cX8_thingOf 44 = .ok (.ireturn, 1) := dk_172 (dk_at dksX8_thingOf_1 20 rfl rfl)
abbrev cX8_amount : ByteArray := prog_30_method_61_code
def yX8_amount : MethodName := ⟨RX8, "amount", "([III)I"⟩
def dkwX8_amount_0 : List UInt8 := [43, 3, 16, 10, 28, 104, 96, 29, 96, 46, 172]
abbrev dktX8_amount_0 : List UInt8 := dkwX8_amount_0 ++ []
theorem dksX8_amount_0 : cX8_amount.data.toList.drop 0 = dktX8_amount_0 := by decide +kernel
theorem dX8_amount_0 : decode cX8_amount 0 = .ok (.aload_n 1, 1) := dk_43 (dk_at dksX8_amount_0 0 rfl rfl)
theorem dX8_amount_1 : decode cX8_amount 1 = .ok (.iconst 0, 1) := dk_3 (dk_at dksX8_amount_0 1 rfl rfl)
theorem dX8_amount_2 : decode cX8_amount 2 = .ok (.bipush 10, 2) := dk_16 10 (dk_at dksX8_amount_0 2 rfl rfl)
theorem dX8_amount_4 : decode cX8_amount 4 = .ok (.iload_n 2, 1) := dk_28 (dk_at dksX8_amount_0 4 rfl rfl)
theorem dX8_amount_5 : decode cX8_amount 5 = .ok (.imul, 1) := dk_104 (dk_at dksX8_amount_0 5 rfl rfl)
theorem dX8_amount_6 : decode cX8_amount 6 = .ok (.iadd, 1) := dk_96 (dk_at dksX8_amount_0 6 rfl rfl)
theorem dX8_amount_7 : decode cX8_amount 7 = .ok (.iload_n 3, 1) := dk_29 (dk_at dksX8_amount_0 7 rfl rfl)
theorem dX8_amount_8 : decode cX8_amount 8 = .ok (.iadd, 1) := dk_96 (dk_at dksX8_amount_0 8 rfl rfl)
theorem dX8_amount_9 : decode cX8_amount 9 = .ok (.iaload, 1) := dk_46 (dk_at dksX8_amount_0 9 rfl rfl)
theorem dX8_amount_10 : decode cX8_amount 10 = .ok (.ireturn, 1) := dk_172 (dk_at dksX8_amount_0 10 rfl rfl)
abbrev cX8_allIn : ByteArray := prog_30_method_65_code
def yX8_allIn : MethodName := ⟨RX8, "allIn", "([I)I"⟩
def dkwX8_allIn_1 : List UInt8 := [61, 132, 3, 1, 167, 255, 232, 28, 172]
abbrev dktX8_allIn_1 : List UInt8 := dkwX8_allIn_1 ++ []
def dkwX8_allIn_0 : List UInt8 := [3, 61, 3, 62, 29, 16, 10, 42, 180, 0, 23, 3, 46, 104, 162, 0, 17, 28, 43, 3, 29, 96, 46, 96]
abbrev dktX8_allIn_0 : List UInt8 := dkwX8_allIn_0 ++ dktX8_allIn_1
theorem dksX8_allIn_0 : cX8_allIn.data.toList.drop 0 = dktX8_allIn_0 := by decide +kernel
theorem dksX8_allIn_1 : cX8_allIn.data.toList.drop 24 = dktX8_allIn_1 := dk_seg dksX8_allIn_0 24 rfl rfl
theorem dX8_allIn_0 : decode cX8_allIn 0 = .ok (.iconst 0, 1) := dk_3 (dk_at dksX8_allIn_0 0 rfl rfl)
theorem dX8_allIn_1 : decode cX8_allIn 1 = .ok (.istore_n 2, 1) := dk_61 (dk_at dksX8_allIn_0 1 rfl rfl)
theorem dX8_allIn_2 : decode cX8_allIn 2 = .ok (.iconst 0, 1) := dk_3 (dk_at dksX8_allIn_0 2 rfl rfl)
theorem dX8_allIn_3 : decode cX8_allIn 3 = .ok (.istore_n 3, 1) := dk_62 (dk_at dksX8_allIn_0 3 rfl rfl)
theorem dX8_allIn_4 : decode cX8_allIn 4 = .ok (.iload_n 3, 1) := dk_29 (dk_at dksX8_allIn_0 4 rfl rfl)
theorem dX8_allIn_5 : decode cX8_allIn 5 = .ok (.bipush 10, 2) := dk_16 10 (dk_at dksX8_allIn_0 5 rfl rfl)
theorem dX8_allIn_7 : decode cX8_allIn 7 = .ok (.aload_n 0, 1) := dk_42 (dk_at dksX8_allIn_0 7 rfl rfl)
theorem dX8_allIn_8 : decode cX8_allIn 8 = .ok (.getfield 23, 3) := dk_180 0 23 (dk_at dksX8_allIn_0 8 rfl rfl)
theorem dX8_allIn_11 : decode cX8_allIn 11 = .ok (.iconst 0, 1) := dk_3 (dk_at dksX8_allIn_0 11 rfl rfl)
theorem dX8_allIn_12 : decode cX8_allIn 12 = .ok (.iaload, 1) := dk_46 (dk_at dksX8_allIn_0 12 rfl rfl)
theorem dX8_allIn_13 : decode cX8_allIn 13 = .ok (.imul, 1) := dk_104 (dk_at dksX8_allIn_0 13 rfl rfl)
theorem dX8_allIn_14 : decode cX8_allIn 14 = .ok (.if_icmp .ge 17, 3) := dk_162 0 17 (dk_at dksX8_allIn_0 14 rfl rfl)
theorem dX8_allIn_17 : decode cX8_allIn 17 = .ok (.iload_n 2, 1) := dk_28 (dk_at dksX8_allIn_0 17 rfl rfl)
theorem dX8_allIn_18 : decode cX8_allIn 18 = .ok (.aload_n 1, 1) := dk_43 (dk_at dksX8_allIn_0 18 rfl rfl)
theorem dX8_allIn_19 : decode cX8_allIn 19 = .ok (.iconst 0, 1) := dk_3 (dk_at dksX8_allIn_0 19 rfl rfl)
theorem dX8_allIn_20 : decode cX8_allIn 20 = .ok (.iload_n 3, 1) := dk_29 (dk_at dksX8_allIn_0 20 rfl rfl)
theorem dX8_allIn_21 : decode cX8_allIn 21 = .ok (.iadd, 1) := dk_96 (dk_at dksX8_allIn_0 21 rfl rfl)
theorem dX8_allIn_22 : decode cX8_allIn 22 = .ok (.iaload, 1) := dk_46 (dk_at dksX8_allIn_0 22 rfl rfl)
theorem dX8_allIn_23 : decode cX8_allIn 23 = .ok (.iadd, 1) := dk_96 (dk_at dksX8_allIn_0 23 rfl rfl)
theorem dX8_allIn_24 : decode cX8_allIn 24 = .ok (.istore_n 2, 1) := dk_61 (dk_at dksX8_allIn_1 0 rfl rfl)
theorem dX8_allIn_25 : decode cX8_allIn 25 = .ok (.iinc 3 1, 3) := dk_132 3 1 (dk_at dksX8_allIn_1 1 rfl rfl)
theorem dX8_allIn_28 : decode cX8_allIn 28 = .ok (.goto (-24), 3) := dk_167 255 232 (dk_at dksX8_allIn_1 4 rfl rfl)
theorem dX8_allIn_31 : decode cX8_allIn 31 = .ok (.iload_n 2, 1) := dk_28 (dk_at dksX8_allIn_1 7 rfl rfl)
theorem dX8_allIn_32 : decode cX8_allIn 32 = .ok (.ireturn, 1) := dk_172 (dk_at dksX8_allIn_1 8 rfl rfl)
abbrev cX8_house : ByteArray := prog_30_method_71_code
def yX8_house : MethodName := ⟨RX8, "house", "(II)I"⟩
def dkwX8_house_8 : List UInt8 := [180, 0, 35, 27, 46, 172, 21, 4, 172, 42, 180, 0, 29, 27, 46, 172]
abbrev dktX8_house_8 : List UInt8 := dkwX8_house_8 ++ []
def dkwX8_house_7 : List UInt8 := [42, 42, 180, 0, 73, 27, 182, 1, 70, 172, 42, 42, 180, 0, 73, 27, 182, 1, 37, 172, 29, 172, 42]
abbrev dktX8_house_7 : List UInt8 := dkwX8_house_7 ++ dktX8_house_8
def dkwX8_house_6 : List UInt8 := [170, 0, 0, 0, 65, 0, 0, 0, 0, 0, 0, 0, 4, 0, 0, 0, 33, 0, 0, 0, 43, 0, 0, 0, 53, 0, 0, 0, 55, 0, 0, 0, 62]
abbrev dktX8_house_6 : List UInt8 := dkwX8_house_6 ++ dktX8_house_7
def dkwX8_house_5 : List UInt8 := [182, 1, 67, 158, 0, 7, 4, 167, 0, 4, 3, 96, 54, 4, 132, 5, 1, 167, 255, 222, 28]
abbrev dktX8_house_5 : List UInt8 := dkwX8_house_5 ++ dktX8_house_6
def dkwX8_house_4 : List UInt8 := [167, 255, 221, 3, 54, 5, 21, 5, 16, 10, 162, 0, 33, 21, 4, 42, 42, 180, 0, 73, 27, 21, 5]
abbrev dktX8_house_4 : List UInt8 := dkwX8_house_4 ++ dktX8_house_5
def dkwX8_house_3 : List UInt8 := [29, 42, 27, 21, 5, 182, 1, 12, 153, 0, 10, 4, 21, 5, 120, 167, 0, 4, 3, 128, 62, 132, 5, 1]
abbrev dktX8_house_3 : List UInt8 := dkwX8_house_3 ++ dktX8_house_4
def dkwX8_house_2 : List UInt8 := [153, 0, 5, 3, 172, 3, 62, 3, 54, 4, 3, 54, 5, 21, 5, 42, 180, 0, 23, 3, 46, 162, 0, 30]
abbrev dktX8_house_2 : List UInt8 := dkwX8_house_2 ++ dktX8_house_3
def dkwX8_house_1 : List UInt8 := [154, 0, 26, 42, 28, 3, 8, 184, 0, 140, 154, 0, 7, 4, 167, 0, 4, 3, 5, 4, 182, 0, 189]
abbrev dktX8_house_1 : List UInt8 := dkwX8_house_1 ++ dktX8_house_2
def dkwX8_house_0 : List UInt8 := [42, 3, 181, 0, 106, 42, 42, 27, 182, 1, 83, 154, 0, 7, 4, 167, 0, 4, 3, 4, 3, 182, 0, 189]
abbrev dktX8_house_0 : List UInt8 := dkwX8_house_0 ++ dktX8_house_1
theorem dksX8_house_0 : cX8_house.data.toList.drop 0 = dktX8_house_0 := by decide +kernel
theorem dksX8_house_1 : cX8_house.data.toList.drop 24 = dktX8_house_1 := dk_seg dksX8_house_0 24 rfl rfl
theorem dksX8_house_2 : cX8_house.data.toList.drop 47 = dktX8_house_2 := dk_seg dksX8_house_1 23 rfl rfl
theorem dksX8_house_3 : cX8_house.data.toList.drop 71 = dktX8_house_3 := dk_seg dksX8_house_2 24 rfl rfl
theorem dksX8_house_4 : cX8_house.data.toList.drop 95 = dktX8_house_4 := dk_seg dksX8_house_3 24 rfl rfl
theorem dksX8_house_5 : cX8_house.data.toList.drop 118 = dktX8_house_5 := dk_seg dksX8_house_4 23 rfl rfl
theorem dksX8_house_6 : cX8_house.data.toList.drop 139 = dktX8_house_6 := dk_seg dksX8_house_5 21 rfl rfl
theorem dksX8_house_7 : cX8_house.data.toList.drop 172 = dktX8_house_7 := dk_seg dksX8_house_6 33 rfl rfl
theorem dksX8_house_8 : cX8_house.data.toList.drop 195 = dktX8_house_8 := dk_seg dksX8_house_7 23 rfl rfl
theorem dX8_house_0 : decode cX8_house 0 = .ok (.aload_n 0, 1) := dk_42 (dk_at dksX8_house_0 0 rfl rfl)
theorem dX8_house_1 : decode cX8_house 1 = .ok (.iconst 0, 1) := dk_3 (dk_at dksX8_house_0 1 rfl rfl)
theorem dX8_house_2 : decode cX8_house 2 = .ok (.putfield 106, 3) := dk_181 0 106 (dk_at dksX8_house_0 2 rfl rfl)
theorem dX8_house_5 : decode cX8_house 5 = .ok (.aload_n 0, 1) := dk_42 (dk_at dksX8_house_0 5 rfl rfl)
theorem dX8_house_6 : decode cX8_house 6 = .ok (.aload_n 0, 1) := dk_42 (dk_at dksX8_house_0 6 rfl rfl)
theorem dX8_house_7 : decode cX8_house 7 = .ok (.iload_n 1, 1) := dk_27 (dk_at dksX8_house_0 7 rfl rfl)
theorem dX8_house_8 : decode cX8_house 8 = .ok (.invokevirtual 339, 3) := dk_182 1 83 (dk_at dksX8_house_0 8 rfl rfl)
theorem dX8_house_11 : decode cX8_house 11 = .ok (.ifCond .ne 7, 3) := dk_154 0 7 (dk_at dksX8_house_0 11 rfl rfl)
theorem dX8_house_14 : decode cX8_house 14 = .ok (.iconst 1, 1) := dk_4 (dk_at dksX8_house_0 14 rfl rfl)
theorem dX8_house_15 : decode cX8_house 15 = .ok (.goto 4, 3) := dk_167 0 4 (dk_at dksX8_house_0 15 rfl rfl)
theorem dX8_house_18 : decode cX8_house 18 = .ok (.iconst 0, 1) := dk_3 (dk_at dksX8_house_0 18 rfl rfl)
theorem dX8_house_19 : decode cX8_house 19 = .ok (.iconst 1, 1) := dk_4 (dk_at dksX8_house_0 19 rfl rfl)
theorem dX8_house_20 : decode cX8_house 20 = .ok (.iconst 0, 1) := dk_3 (dk_at dksX8_house_0 20 rfl rfl)
theorem dX8_house_21 : decode cX8_house 21 = .ok (.invokevirtual 189, 3) := dk_182 0 189 (dk_at dksX8_house_0 21 rfl rfl)
theorem dX8_house_24 : decode cX8_house 24 = .ok (.ifCond .ne 26, 3) := dk_154 0 26 (dk_at dksX8_house_1 0 rfl rfl)
theorem dX8_house_27 : decode cX8_house 27 = .ok (.aload_n 0, 1) := dk_42 (dk_at dksX8_house_1 3 rfl rfl)
theorem dX8_house_28 : decode cX8_house 28 = .ok (.iload_n 2, 1) := dk_28 (dk_at dksX8_house_1 4 rfl rfl)
theorem dX8_house_29 : decode cX8_house 29 = .ok (.iconst 0, 1) := dk_3 (dk_at dksX8_house_1 5 rfl rfl)
theorem dX8_house_30 : decode cX8_house 30 = .ok (.iconst 5, 1) := dk_8 (dk_at dksX8_house_1 6 rfl rfl)
theorem dX8_house_31 : decode cX8_house 31 = .ok (.invokestatic 140, 3) := dk_184 0 140 (dk_at dksX8_house_1 7 rfl rfl)
theorem dX8_house_34 : decode cX8_house 34 = .ok (.ifCond .ne 7, 3) := dk_154 0 7 (dk_at dksX8_house_1 10 rfl rfl)
theorem dX8_house_37 : decode cX8_house 37 = .ok (.iconst 1, 1) := dk_4 (dk_at dksX8_house_1 13 rfl rfl)
theorem dX8_house_38 : decode cX8_house 38 = .ok (.goto 4, 3) := dk_167 0 4 (dk_at dksX8_house_1 14 rfl rfl)
theorem dX8_house_41 : decode cX8_house 41 = .ok (.iconst 0, 1) := dk_3 (dk_at dksX8_house_1 17 rfl rfl)
theorem dX8_house_42 : decode cX8_house 42 = .ok (.iconst 2, 1) := dk_5 (dk_at dksX8_house_1 18 rfl rfl)
theorem dX8_house_43 : decode cX8_house 43 = .ok (.iconst 1, 1) := dk_4 (dk_at dksX8_house_1 19 rfl rfl)
theorem dX8_house_44 : decode cX8_house 44 = .ok (.invokevirtual 189, 3) := dk_182 0 189 (dk_at dksX8_house_1 20 rfl rfl)
theorem dX8_house_47 : decode cX8_house 47 = .ok (.ifCond .eq 5, 3) := dk_153 0 5 (dk_at dksX8_house_2 0 rfl rfl)
theorem dX8_house_50 : decode cX8_house 50 = .ok (.iconst 0, 1) := dk_3 (dk_at dksX8_house_2 3 rfl rfl)
theorem dX8_house_51 : decode cX8_house 51 = .ok (.ireturn, 1) := dk_172 (dk_at dksX8_house_2 4 rfl rfl)
theorem dX8_house_52 : decode cX8_house 52 = .ok (.iconst 0, 1) := dk_3 (dk_at dksX8_house_2 5 rfl rfl)
theorem dX8_house_53 : decode cX8_house 53 = .ok (.istore_n 3, 1) := dk_62 (dk_at dksX8_house_2 6 rfl rfl)
theorem dX8_house_54 : decode cX8_house 54 = .ok (.iconst 0, 1) := dk_3 (dk_at dksX8_house_2 7 rfl rfl)
theorem dX8_house_55 : decode cX8_house 55 = .ok (.istore 4, 2) := dk_54 4 (dk_at dksX8_house_2 8 rfl rfl)
theorem dX8_house_57 : decode cX8_house 57 = .ok (.iconst 0, 1) := dk_3 (dk_at dksX8_house_2 10 rfl rfl)
theorem dX8_house_58 : decode cX8_house 58 = .ok (.istore 5, 2) := dk_54 5 (dk_at dksX8_house_2 11 rfl rfl)
theorem dX8_house_60 : decode cX8_house 60 = .ok (.iload 5, 2) := dk_21 5 (dk_at dksX8_house_2 13 rfl rfl)
theorem dX8_house_62 : decode cX8_house 62 = .ok (.aload_n 0, 1) := dk_42 (dk_at dksX8_house_2 15 rfl rfl)
theorem dX8_house_63 : decode cX8_house 63 = .ok (.getfield 23, 3) := dk_180 0 23 (dk_at dksX8_house_2 16 rfl rfl)
theorem dX8_house_66 : decode cX8_house 66 = .ok (.iconst 0, 1) := dk_3 (dk_at dksX8_house_2 19 rfl rfl)
theorem dX8_house_67 : decode cX8_house 67 = .ok (.iaload, 1) := dk_46 (dk_at dksX8_house_2 20 rfl rfl)
theorem dX8_house_68 : decode cX8_house 68 = .ok (.if_icmp .ge 30, 3) := dk_162 0 30 (dk_at dksX8_house_2 21 rfl rfl)
theorem dX8_house_71 : decode cX8_house 71 = .ok (.iload_n 3, 1) := dk_29 (dk_at dksX8_house_3 0 rfl rfl)
theorem dX8_house_72 : decode cX8_house 72 = .ok (.aload_n 0, 1) := dk_42 (dk_at dksX8_house_3 1 rfl rfl)
theorem dX8_house_73 : decode cX8_house 73 = .ok (.iload_n 1, 1) := dk_27 (dk_at dksX8_house_3 2 rfl rfl)
theorem dX8_house_74 : decode cX8_house 74 = .ok (.iload 5, 2) := dk_21 5 (dk_at dksX8_house_3 3 rfl rfl)
theorem dX8_house_76 : decode cX8_house 76 = .ok (.invokevirtual 268, 3) := dk_182 1 12 (dk_at dksX8_house_3 5 rfl rfl)
theorem dX8_house_79 : decode cX8_house 79 = .ok (.ifCond .eq 10, 3) := dk_153 0 10 (dk_at dksX8_house_3 8 rfl rfl)
theorem dX8_house_82 : decode cX8_house 82 = .ok (.iconst 1, 1) := dk_4 (dk_at dksX8_house_3 11 rfl rfl)
theorem dX8_house_83 : decode cX8_house 83 = .ok (.iload 5, 2) := dk_21 5 (dk_at dksX8_house_3 12 rfl rfl)
theorem dX8_house_85 : decode cX8_house 85 = .ok (.ishl, 1) := dk_120 (dk_at dksX8_house_3 14 rfl rfl)
theorem dX8_house_86 : decode cX8_house 86 = .ok (.goto 4, 3) := dk_167 0 4 (dk_at dksX8_house_3 15 rfl rfl)
theorem dX8_house_89 : decode cX8_house 89 = .ok (.iconst 0, 1) := dk_3 (dk_at dksX8_house_3 18 rfl rfl)
theorem dX8_house_90 : decode cX8_house 90 = .ok (.ior, 1) := dk_128 (dk_at dksX8_house_3 19 rfl rfl)
theorem dX8_house_91 : decode cX8_house 91 = .ok (.istore_n 3, 1) := dk_62 (dk_at dksX8_house_3 20 rfl rfl)
theorem dX8_house_92 : decode cX8_house 92 = .ok (.iinc 5 1, 3) := dk_132 5 1 (dk_at dksX8_house_3 21 rfl rfl)
theorem dX8_house_95 : decode cX8_house 95 = .ok (.goto (-35), 3) := dk_167 255 221 (dk_at dksX8_house_4 0 rfl rfl)
theorem dX8_house_98 : decode cX8_house 98 = .ok (.iconst 0, 1) := dk_3 (dk_at dksX8_house_4 3 rfl rfl)
theorem dX8_house_99 : decode cX8_house 99 = .ok (.istore 5, 2) := dk_54 5 (dk_at dksX8_house_4 4 rfl rfl)
theorem dX8_house_101 : decode cX8_house 101 = .ok (.iload 5, 2) := dk_21 5 (dk_at dksX8_house_4 6 rfl rfl)
theorem dX8_house_103 : decode cX8_house 103 = .ok (.bipush 10, 2) := dk_16 10 (dk_at dksX8_house_4 8 rfl rfl)
theorem dX8_house_105 : decode cX8_house 105 = .ok (.if_icmp .ge 33, 3) := dk_162 0 33 (dk_at dksX8_house_4 10 rfl rfl)
theorem dX8_house_108 : decode cX8_house 108 = .ok (.iload 4, 2) := dk_21 4 (dk_at dksX8_house_4 13 rfl rfl)
theorem dX8_house_110 : decode cX8_house 110 = .ok (.aload_n 0, 1) := dk_42 (dk_at dksX8_house_4 15 rfl rfl)
theorem dX8_house_111 : decode cX8_house 111 = .ok (.aload_n 0, 1) := dk_42 (dk_at dksX8_house_4 16 rfl rfl)
theorem dX8_house_112 : decode cX8_house 112 = .ok (.getfield 73, 3) := dk_180 0 73 (dk_at dksX8_house_4 17 rfl rfl)
theorem dX8_house_115 : decode cX8_house 115 = .ok (.iload_n 1, 1) := dk_27 (dk_at dksX8_house_4 20 rfl rfl)
theorem dX8_house_116 : decode cX8_house 116 = .ok (.iload 5, 2) := dk_21 5 (dk_at dksX8_house_4 21 rfl rfl)
theorem dX8_house_118 : decode cX8_house 118 = .ok (.invokevirtual 323, 3) := dk_182 1 67 (dk_at dksX8_house_5 0 rfl rfl)
theorem dX8_house_121 : decode cX8_house 121 = .ok (.ifCond .le 7, 3) := dk_158 0 7 (dk_at dksX8_house_5 3 rfl rfl)
theorem dX8_house_124 : decode cX8_house 124 = .ok (.iconst 1, 1) := dk_4 (dk_at dksX8_house_5 6 rfl rfl)
theorem dX8_house_125 : decode cX8_house 125 = .ok (.goto 4, 3) := dk_167 0 4 (dk_at dksX8_house_5 7 rfl rfl)
theorem dX8_house_128 : decode cX8_house 128 = .ok (.iconst 0, 1) := dk_3 (dk_at dksX8_house_5 10 rfl rfl)
theorem dX8_house_129 : decode cX8_house 129 = .ok (.iadd, 1) := dk_96 (dk_at dksX8_house_5 11 rfl rfl)
theorem dX8_house_130 : decode cX8_house 130 = .ok (.istore 4, 2) := dk_54 4 (dk_at dksX8_house_5 12 rfl rfl)
theorem dX8_house_132 : decode cX8_house 132 = .ok (.iinc 5 1, 3) := dk_132 5 1 (dk_at dksX8_house_5 14 rfl rfl)
theorem dX8_house_135 : decode cX8_house 135 = .ok (.goto (-34), 3) := dk_167 255 222 (dk_at dksX8_house_5 17 rfl rfl)
theorem dX8_house_138 : decode cX8_house 138 = .ok (.iload_n 2, 1) := dk_28 (dk_at dksX8_house_5 20 rfl rfl)
theorem dX8_house_139 : decode cX8_house 139 = .ok (.tableswitch 65 0 4 #[33, 43, 53, 55, 62], 33) := by decide +kernel
theorem dX8_house_172 : decode cX8_house 172 = .ok (.aload_n 0, 1) := dk_42 (dk_at dksX8_house_7 0 rfl rfl)
theorem dX8_house_173 : decode cX8_house 173 = .ok (.aload_n 0, 1) := dk_42 (dk_at dksX8_house_7 1 rfl rfl)
theorem dX8_house_174 : decode cX8_house 174 = .ok (.getfield 73, 3) := dk_180 0 73 (dk_at dksX8_house_7 2 rfl rfl)
theorem dX8_house_177 : decode cX8_house 177 = .ok (.iload_n 1, 1) := dk_27 (dk_at dksX8_house_7 5 rfl rfl)
theorem dX8_house_178 : decode cX8_house 178 = .ok (.invokevirtual 326, 3) := dk_182 1 70 (dk_at dksX8_house_7 6 rfl rfl)
theorem dX8_house_181 : decode cX8_house 181 = .ok (.ireturn, 1) := dk_172 (dk_at dksX8_house_7 9 rfl rfl)
theorem dX8_house_182 : decode cX8_house 182 = .ok (.aload_n 0, 1) := dk_42 (dk_at dksX8_house_7 10 rfl rfl)
theorem dX8_house_183 : decode cX8_house 183 = .ok (.aload_n 0, 1) := dk_42 (dk_at dksX8_house_7 11 rfl rfl)
theorem dX8_house_184 : decode cX8_house 184 = .ok (.getfield 73, 3) := dk_180 0 73 (dk_at dksX8_house_7 12 rfl rfl)
theorem dX8_house_187 : decode cX8_house 187 = .ok (.iload_n 1, 1) := dk_27 (dk_at dksX8_house_7 15 rfl rfl)
theorem dX8_house_188 : decode cX8_house 188 = .ok (.invokevirtual 293, 3) := dk_182 1 37 (dk_at dksX8_house_7 16 rfl rfl)
theorem dX8_house_191 : decode cX8_house 191 = .ok (.ireturn, 1) := dk_172 (dk_at dksX8_house_7 19 rfl rfl)
theorem dX8_house_192 : decode cX8_house 192 = .ok (.iload_n 3, 1) := dk_29 (dk_at dksX8_house_7 20 rfl rfl)
theorem dX8_house_193 : decode cX8_house 193 = .ok (.ireturn, 1) := dk_172 (dk_at dksX8_house_7 21 rfl rfl)
theorem dX8_house_194 : decode cX8_house 194 = .ok (.aload_n 0, 1) := dk_42 (dk_at dksX8_house_7 22 rfl rfl)
theorem dX8_house_195 : decode cX8_house 195 = .ok (.getfield 35, 3) := dk_180 0 35 (dk_at dksX8_house_8 0 rfl rfl)
theorem dX8_house_198 : decode cX8_house 198 = .ok (.iload_n 1, 1) := dk_27 (dk_at dksX8_house_8 3 rfl rfl)
theorem dX8_house_199 : decode cX8_house 199 = .ok (.iaload, 1) := dk_46 (dk_at dksX8_house_8 4 rfl rfl)
theorem dX8_house_200 : decode cX8_house 200 = .ok (.ireturn, 1) := dk_172 (dk_at dksX8_house_8 5 rfl rfl)
theorem dX8_house_201 : decode cX8_house 201 = .ok (.iload 4, 2) := dk_21 4 (dk_at dksX8_house_8 6 rfl rfl)
theorem dX8_house_203 : decode cX8_house 203 = .ok (.ireturn, 1) := dk_172 (dk_at dksX8_house_8 8 rfl rfl)
theorem dX8_house_204 : decode cX8_house 204 = .ok (.aload_n 0, 1) := dk_42 (dk_at dksX8_house_8 9 rfl rfl)
theorem dX8_house_205 : decode cX8_house 205 = .ok (.getfield 29, 3) := dk_180 0 29 (dk_at dksX8_house_8 10 rfl rfl)
theorem dX8_house_208 : decode cX8_house 208 = .ok (.iload_n 1, 1) := dk_27 (dk_at dksX8_house_8 13 rfl rfl)
theorem dX8_house_209 : decode cX8_house 209 = .ok (.iaload, 1) := dk_46 (dk_at dksX8_house_8 14 rfl rfl)
theorem dX8_house_210 : decode cX8_house 210 = .ok (.ireturn, 1) := dk_172 (dk_at dksX8_house_8 15 rfl rfl)
abbrev cX8_isHouse : ByteArray := prog_30_method_68_code
def yX8_isHouse : MethodName := ⟨RX8, "isHouse", "(I)Z"⟩
def dkwX8_isHouse_0 : List UInt8 := [27, 3, 42, 180, 0, 23, 3, 46, 4, 100, 184, 0, 140, 172]
abbrev dktX8_isHouse_0 : List UInt8 := dkwX8_isHouse_0 ++ []
theorem dksX8_isHouse_0 : cX8_isHouse.data.toList.drop 0 = dktX8_isHouse_0 := by decide +kernel
theorem dX8_isHouse_0 : decode cX8_isHouse 0 = .ok (.iload_n 1, 1) := dk_27 (dk_at dksX8_isHouse_0 0 rfl rfl)
theorem dX8_isHouse_1 : decode cX8_isHouse 1 = .ok (.iconst 0, 1) := dk_3 (dk_at dksX8_isHouse_0 1 rfl rfl)
theorem dX8_isHouse_2 : decode cX8_isHouse 2 = .ok (.aload_n 0, 1) := dk_42 (dk_at dksX8_isHouse_0 2 rfl rfl)
theorem dX8_isHouse_3 : decode cX8_isHouse 3 = .ok (.getfield 23, 3) := dk_180 0 23 (dk_at dksX8_isHouse_0 3 rfl rfl)
theorem dX8_isHouse_6 : decode cX8_isHouse 6 = .ok (.iconst 0, 1) := dk_3 (dk_at dksX8_isHouse_0 6 rfl rfl)
theorem dX8_isHouse_7 : decode cX8_isHouse 7 = .ok (.iaload, 1) := dk_46 (dk_at dksX8_isHouse_0 7 rfl rfl)
theorem dX8_isHouse_8 : decode cX8_isHouse 8 = .ok (.iconst 1, 1) := dk_4 (dk_at dksX8_isHouse_0 8 rfl rfl)
theorem dX8_isHouse_9 : decode cX8_isHouse 9 = .ok (.isub, 1) := dk_100 (dk_at dksX8_isHouse_0 9 rfl rfl)
theorem dX8_isHouse_10 : decode cX8_isHouse 10 = .ok (.invokestatic 140, 3) := dk_184 0 140 (dk_at dksX8_isHouse_0 10 rfl rfl)
theorem dX8_isHouse_13 : decode cX8_isHouse 13 = .ok (.ireturn, 1) := dk_172 (dk_at dksX8_isHouse_0 13 rfl rfl)
abbrev cX8_there : ByteArray := prog_30_method_72_code
def yX8_there : MethodName := ⟨RX8, "there", "(II)I"⟩
def dkwX8_there_2 : List UInt8 := [3, 172, 42, 42, 180, 0, 73, 27, 28, 182, 1, 67, 172]
abbrev dktX8_there_2 : List UInt8 := dkwX8_there_2 ++ []
def dkwX8_there_1 : List UInt8 := [154, 0, 24, 42, 28, 184, 1, 86, 154, 0, 7, 4, 167, 0, 4, 3, 5, 4, 182, 0, 189, 153, 0, 5]
abbrev dktX8_there_1 : List UInt8 := dkwX8_there_1 ++ dktX8_there_2
def dkwX8_there_0 : List UInt8 := [42, 3, 181, 0, 106, 42, 42, 27, 182, 1, 83, 154, 0, 7, 4, 167, 0, 4, 3, 4, 3, 182, 0, 189]
abbrev dktX8_there_0 : List UInt8 := dkwX8_there_0 ++ dktX8_there_1
theorem dksX8_there_0 : cX8_there.data.toList.drop 0 = dktX8_there_0 := by decide +kernel
theorem dksX8_there_1 : cX8_there.data.toList.drop 24 = dktX8_there_1 := dk_seg dksX8_there_0 24 rfl rfl
theorem dksX8_there_2 : cX8_there.data.toList.drop 48 = dktX8_there_2 := dk_seg dksX8_there_1 24 rfl rfl
theorem dX8_there_0 : decode cX8_there 0 = .ok (.aload_n 0, 1) := dk_42 (dk_at dksX8_there_0 0 rfl rfl)
theorem dX8_there_1 : decode cX8_there 1 = .ok (.iconst 0, 1) := dk_3 (dk_at dksX8_there_0 1 rfl rfl)
theorem dX8_there_2 : decode cX8_there 2 = .ok (.putfield 106, 3) := dk_181 0 106 (dk_at dksX8_there_0 2 rfl rfl)
theorem dX8_there_5 : decode cX8_there 5 = .ok (.aload_n 0, 1) := dk_42 (dk_at dksX8_there_0 5 rfl rfl)
theorem dX8_there_6 : decode cX8_there 6 = .ok (.aload_n 0, 1) := dk_42 (dk_at dksX8_there_0 6 rfl rfl)
theorem dX8_there_7 : decode cX8_there 7 = .ok (.iload_n 1, 1) := dk_27 (dk_at dksX8_there_0 7 rfl rfl)
theorem dX8_there_8 : decode cX8_there 8 = .ok (.invokevirtual 339, 3) := dk_182 1 83 (dk_at dksX8_there_0 8 rfl rfl)
theorem dX8_there_11 : decode cX8_there 11 = .ok (.ifCond .ne 7, 3) := dk_154 0 7 (dk_at dksX8_there_0 11 rfl rfl)
theorem dX8_there_14 : decode cX8_there 14 = .ok (.iconst 1, 1) := dk_4 (dk_at dksX8_there_0 14 rfl rfl)
theorem dX8_there_15 : decode cX8_there 15 = .ok (.goto 4, 3) := dk_167 0 4 (dk_at dksX8_there_0 15 rfl rfl)
theorem dX8_there_18 : decode cX8_there 18 = .ok (.iconst 0, 1) := dk_3 (dk_at dksX8_there_0 18 rfl rfl)
theorem dX8_there_19 : decode cX8_there 19 = .ok (.iconst 1, 1) := dk_4 (dk_at dksX8_there_0 19 rfl rfl)
theorem dX8_there_20 : decode cX8_there 20 = .ok (.iconst 0, 1) := dk_3 (dk_at dksX8_there_0 20 rfl rfl)
theorem dX8_there_21 : decode cX8_there 21 = .ok (.invokevirtual 189, 3) := dk_182 0 189 (dk_at dksX8_there_0 21 rfl rfl)
theorem dX8_there_24 : decode cX8_there 24 = .ok (.ifCond .ne 24, 3) := dk_154 0 24 (dk_at dksX8_there_1 0 rfl rfl)
theorem dX8_there_27 : decode cX8_there 27 = .ok (.aload_n 0, 1) := dk_42 (dk_at dksX8_there_1 3 rfl rfl)
theorem dX8_there_28 : decode cX8_there 28 = .ok (.iload_n 2, 1) := dk_28 (dk_at dksX8_there_1 4 rfl rfl)
theorem dX8_there_29 : decode cX8_there 29 = .ok (.invokestatic 342, 3) := dk_184 1 86 (dk_at dksX8_there_1 5 rfl rfl)
theorem dX8_there_32 : decode cX8_there 32 = .ok (.ifCond .ne 7, 3) := dk_154 0 7 (dk_at dksX8_there_1 8 rfl rfl)
theorem dX8_there_35 : decode cX8_there 35 = .ok (.iconst 1, 1) := dk_4 (dk_at dksX8_there_1 11 rfl rfl)
theorem dX8_there_36 : decode cX8_there 36 = .ok (.goto 4, 3) := dk_167 0 4 (dk_at dksX8_there_1 12 rfl rfl)
theorem dX8_there_39 : decode cX8_there 39 = .ok (.iconst 0, 1) := dk_3 (dk_at dksX8_there_1 15 rfl rfl)
theorem dX8_there_40 : decode cX8_there 40 = .ok (.iconst 2, 1) := dk_5 (dk_at dksX8_there_1 16 rfl rfl)
theorem dX8_there_41 : decode cX8_there 41 = .ok (.iconst 1, 1) := dk_4 (dk_at dksX8_there_1 17 rfl rfl)
theorem dX8_there_42 : decode cX8_there 42 = .ok (.invokevirtual 189, 3) := dk_182 0 189 (dk_at dksX8_there_1 18 rfl rfl)
theorem dX8_there_45 : decode cX8_there 45 = .ok (.ifCond .eq 5, 3) := dk_153 0 5 (dk_at dksX8_there_1 21 rfl rfl)
theorem dX8_there_48 : decode cX8_there 48 = .ok (.iconst 0, 1) := dk_3 (dk_at dksX8_there_2 0 rfl rfl)
theorem dX8_there_49 : decode cX8_there 49 = .ok (.ireturn, 1) := dk_172 (dk_at dksX8_there_2 1 rfl rfl)
theorem dX8_there_50 : decode cX8_there 50 = .ok (.aload_n 0, 1) := dk_42 (dk_at dksX8_there_2 2 rfl rfl)
theorem dX8_there_51 : decode cX8_there 51 = .ok (.aload_n 0, 1) := dk_42 (dk_at dksX8_there_2 3 rfl rfl)
theorem dX8_there_52 : decode cX8_there 52 = .ok (.getfield 73, 3) := dk_180 0 73 (dk_at dksX8_there_2 4 rfl rfl)
theorem dX8_there_55 : decode cX8_there 55 = .ok (.iload_n 1, 1) := dk_27 (dk_at dksX8_there_2 7 rfl rfl)
theorem dX8_there_56 : decode cX8_there 56 = .ok (.iload_n 2, 1) := dk_28 (dk_at dksX8_there_2 8 rfl rfl)
theorem dX8_there_57 : decode cX8_there 57 = .ok (.invokevirtual 323, 3) := dk_182 1 67 (dk_at dksX8_there_2 9 rfl rfl)
theorem dX8_there_60 : decode cX8_there 60 = .ok (.ireturn, 1) := dk_172 (dk_at dksX8_there_2 12 rfl rfl)
abbrev cX8_isThing : ByteArray := prog_30_method_70_code
def yX8_isThing : MethodName := ⟨RX8, "isThing", "(I)Z"⟩
def dkwX8_isThing_0 : List UInt8 := [26, 3, 16, 9, 184, 0, 140, 172]
abbrev dktX8_isThing_0 : List UInt8 := dkwX8_isThing_0 ++ []
theorem dksX8_isThing_0 : cX8_isThing.data.toList.drop 0 = dktX8_isThing_0 := by decide +kernel
theorem dX8_isThing_0 : decode cX8_isThing 0 = .ok (.iload_n 0, 1) := dk_26 (dk_at dksX8_isThing_0 0 rfl rfl)
theorem dX8_isThing_1 : decode cX8_isThing 1 = .ok (.iconst 0, 1) := dk_3 (dk_at dksX8_isThing_0 1 rfl rfl)
theorem dX8_isThing_2 : decode cX8_isThing 2 = .ok (.bipush 9, 2) := dk_16 9 (dk_at dksX8_isThing_0 2 rfl rfl)
theorem dX8_isThing_4 : decode cX8_isThing 4 = .ok (.invokestatic 140, 3) := dk_184 0 140 (dk_at dksX8_isThing_0 4 rfl rfl)
theorem dX8_isThing_7 : decode cX8_isThing 7 = .ok (.ireturn, 1) := dk_172 (dk_at dksX8_isThing_0 7 rfl rfl)
abbrev cX8_wall : ByteArray := prog_30_method_73_code
def yX8_wall : MethodName := ⟨RX8, "wall", "(II)I"⟩
def dkwX8_wall_2 : List UInt8 := [167, 0, 4, 3, 5, 4, 182, 0, 189, 153, 0, 5, 3, 172, 42, 180, 0, 43, 27, 50, 28, 46, 172]
abbrev dktX8_wall_2 : List UInt8 := dkwX8_wall_2 ++ []
def dkwX8_wall_1 : List UInt8 := [167, 0, 4, 3, 4, 3, 182, 0, 189, 154, 0, 26, 42, 28, 3, 4, 184, 0, 140, 154, 0, 7, 4]
abbrev dktX8_wall_1 : List UInt8 := dkwX8_wall_1 ++ dktX8_wall_2
def dkwX8_wall_0 : List UInt8 := [42, 3, 181, 0, 106, 42, 27, 3, 42, 180, 0, 23, 4, 46, 4, 100, 184, 0, 140, 154, 0, 7, 4]
abbrev dktX8_wall_0 : List UInt8 := dkwX8_wall_0 ++ dktX8_wall_1
theorem dksX8_wall_0 : cX8_wall.data.toList.drop 0 = dktX8_wall_0 := by decide +kernel
theorem dksX8_wall_1 : cX8_wall.data.toList.drop 23 = dktX8_wall_1 := dk_seg dksX8_wall_0 23 rfl rfl
theorem dksX8_wall_2 : cX8_wall.data.toList.drop 46 = dktX8_wall_2 := dk_seg dksX8_wall_1 23 rfl rfl
theorem dX8_wall_0 : decode cX8_wall 0 = .ok (.aload_n 0, 1) := dk_42 (dk_at dksX8_wall_0 0 rfl rfl)
theorem dX8_wall_1 : decode cX8_wall 1 = .ok (.iconst 0, 1) := dk_3 (dk_at dksX8_wall_0 1 rfl rfl)
theorem dX8_wall_2 : decode cX8_wall 2 = .ok (.putfield 106, 3) := dk_181 0 106 (dk_at dksX8_wall_0 2 rfl rfl)
theorem dX8_wall_5 : decode cX8_wall 5 = .ok (.aload_n 0, 1) := dk_42 (dk_at dksX8_wall_0 5 rfl rfl)
theorem dX8_wall_6 : decode cX8_wall 6 = .ok (.iload_n 1, 1) := dk_27 (dk_at dksX8_wall_0 6 rfl rfl)
theorem dX8_wall_7 : decode cX8_wall 7 = .ok (.iconst 0, 1) := dk_3 (dk_at dksX8_wall_0 7 rfl rfl)
theorem dX8_wall_8 : decode cX8_wall 8 = .ok (.aload_n 0, 1) := dk_42 (dk_at dksX8_wall_0 8 rfl rfl)
theorem dX8_wall_9 : decode cX8_wall 9 = .ok (.getfield 23, 3) := dk_180 0 23 (dk_at dksX8_wall_0 9 rfl rfl)
theorem dX8_wall_12 : decode cX8_wall 12 = .ok (.iconst 1, 1) := dk_4 (dk_at dksX8_wall_0 12 rfl rfl)
theorem dX8_wall_13 : decode cX8_wall 13 = .ok (.iaload, 1) := dk_46 (dk_at dksX8_wall_0 13 rfl rfl)
theorem dX8_wall_14 : decode cX8_wall 14 = .ok (.iconst 1, 1) := dk_4 (dk_at dksX8_wall_0 14 rfl rfl)
theorem dX8_wall_15 : decode cX8_wall 15 = .ok (.isub, 1) := dk_100 (dk_at dksX8_wall_0 15 rfl rfl)
theorem dX8_wall_16 : decode cX8_wall 16 = .ok (.invokestatic 140, 3) := dk_184 0 140 (dk_at dksX8_wall_0 16 rfl rfl)
theorem dX8_wall_19 : decode cX8_wall 19 = .ok (.ifCond .ne 7, 3) := dk_154 0 7 (dk_at dksX8_wall_0 19 rfl rfl)
theorem dX8_wall_22 : decode cX8_wall 22 = .ok (.iconst 1, 1) := dk_4 (dk_at dksX8_wall_0 22 rfl rfl)
theorem dX8_wall_23 : decode cX8_wall 23 = .ok (.goto 4, 3) := dk_167 0 4 (dk_at dksX8_wall_1 0 rfl rfl)
theorem dX8_wall_26 : decode cX8_wall 26 = .ok (.iconst 0, 1) := dk_3 (dk_at dksX8_wall_1 3 rfl rfl)
theorem dX8_wall_27 : decode cX8_wall 27 = .ok (.iconst 1, 1) := dk_4 (dk_at dksX8_wall_1 4 rfl rfl)
theorem dX8_wall_28 : decode cX8_wall 28 = .ok (.iconst 0, 1) := dk_3 (dk_at dksX8_wall_1 5 rfl rfl)
theorem dX8_wall_29 : decode cX8_wall 29 = .ok (.invokevirtual 189, 3) := dk_182 0 189 (dk_at dksX8_wall_1 6 rfl rfl)
theorem dX8_wall_32 : decode cX8_wall 32 = .ok (.ifCond .ne 26, 3) := dk_154 0 26 (dk_at dksX8_wall_1 9 rfl rfl)
theorem dX8_wall_35 : decode cX8_wall 35 = .ok (.aload_n 0, 1) := dk_42 (dk_at dksX8_wall_1 12 rfl rfl)
theorem dX8_wall_36 : decode cX8_wall 36 = .ok (.iload_n 2, 1) := dk_28 (dk_at dksX8_wall_1 13 rfl rfl)
theorem dX8_wall_37 : decode cX8_wall 37 = .ok (.iconst 0, 1) := dk_3 (dk_at dksX8_wall_1 14 rfl rfl)
theorem dX8_wall_38 : decode cX8_wall 38 = .ok (.iconst 1, 1) := dk_4 (dk_at dksX8_wall_1 15 rfl rfl)
theorem dX8_wall_39 : decode cX8_wall 39 = .ok (.invokestatic 140, 3) := dk_184 0 140 (dk_at dksX8_wall_1 16 rfl rfl)
theorem dX8_wall_42 : decode cX8_wall 42 = .ok (.ifCond .ne 7, 3) := dk_154 0 7 (dk_at dksX8_wall_1 19 rfl rfl)
theorem dX8_wall_45 : decode cX8_wall 45 = .ok (.iconst 1, 1) := dk_4 (dk_at dksX8_wall_1 22 rfl rfl)
theorem dX8_wall_46 : decode cX8_wall 46 = .ok (.goto 4, 3) := dk_167 0 4 (dk_at dksX8_wall_2 0 rfl rfl)
theorem dX8_wall_49 : decode cX8_wall 49 = .ok (.iconst 0, 1) := dk_3 (dk_at dksX8_wall_2 3 rfl rfl)
theorem dX8_wall_50 : decode cX8_wall 50 = .ok (.iconst 2, 1) := dk_5 (dk_at dksX8_wall_2 4 rfl rfl)
theorem dX8_wall_51 : decode cX8_wall 51 = .ok (.iconst 1, 1) := dk_4 (dk_at dksX8_wall_2 5 rfl rfl)
theorem dX8_wall_52 : decode cX8_wall 52 = .ok (.invokevirtual 189, 3) := dk_182 0 189 (dk_at dksX8_wall_2 6 rfl rfl)
theorem dX8_wall_55 : decode cX8_wall 55 = .ok (.ifCond .eq 5, 3) := dk_153 0 5 (dk_at dksX8_wall_2 9 rfl rfl)
theorem dX8_wall_58 : decode cX8_wall 58 = .ok (.iconst 0, 1) := dk_3 (dk_at dksX8_wall_2 12 rfl rfl)
theorem dX8_wall_59 : decode cX8_wall 59 = .ok (.ireturn, 1) := dk_172 (dk_at dksX8_wall_2 13 rfl rfl)
theorem dX8_wall_60 : decode cX8_wall 60 = .ok (.aload_n 0, 1) := dk_42 (dk_at dksX8_wall_2 14 rfl rfl)
theorem dX8_wall_61 : decode cX8_wall 61 = .ok (.getfield 43, 3) := dk_180 0 43 (dk_at dksX8_wall_2 15 rfl rfl)
theorem dX8_wall_64 : decode cX8_wall 64 = .ok (.iload_n 1, 1) := dk_27 (dk_at dksX8_wall_2 18 rfl rfl)
theorem dX8_wall_65 : decode cX8_wall 65 = .ok (.aaload, 1) := dk_50 (dk_at dksX8_wall_2 19 rfl rfl)
theorem dX8_wall_66 : decode cX8_wall 66 = .ok (.iload_n 2, 1) := dk_28 (dk_at dksX8_wall_2 20 rfl rfl)
theorem dX8_wall_67 : decode cX8_wall 67 = .ok (.iaload, 1) := dk_46 (dk_at dksX8_wall_2 21 rfl rfl)
theorem dX8_wall_68 : decode cX8_wall 68 = .ok (.ireturn, 1) := dk_172 (dk_at dksX8_wall_2 22 rfl rfl)
abbrev cX8_piano : ByteArray := prog_30_method_74_code
def yX8_piano : MethodName := ⟨RX8, "piano", "(II)I"⟩
def dkwX8_piano_6 : List UInt8 := [182, 1, 30, 172, 42, 42, 180, 0, 73, 27, 182, 1, 40, 172, 42, 42, 180, 0, 73, 27, 182, 1, 73, 172]
abbrev dktX8_piano_6 : List UInt8 := dkwX8_piano_6 ++ []
def dkwX8_piano_5 : List UInt8 := [16, 86, 27, 96, 46, 172, 42, 180, 0, 73, 16, 92, 27, 96, 46, 172, 42, 42, 180, 0, 73, 27]
abbrev dktX8_piano_5 : List UInt8 := dkwX8_piano_5 ++ dktX8_piano_6
def dkwX8_piano_4 : List UInt8 := [42, 180, 0, 49, 27, 50, 28, 46, 172, 42, 180, 0, 73, 16, 80, 27, 96, 46, 172, 42, 180, 0, 73]
abbrev dktX8_piano_4 : List UInt8 := dkwX8_piano_4 ++ dktX8_piano_5
def dkwX8_piano_3 : List UInt8 := [170, 0, 0, 0, 0, 101, 0, 0, 0, 0, 0, 0, 0, 6, 0, 0, 0, 42, 0, 0, 0, 42, 0, 0, 0, 51, 0, 0, 0, 61, 0, 0, 0, 71, 0, 0, 0, 81, 0, 0, 0, 91]
abbrev dktX8_piano_3 : List UInt8 := dkwX8_piano_3 ++ dktX8_piano_4
def dkwX8_piano_2 : List UInt8 := [153, 0, 5, 3, 172, 28]
abbrev dktX8_piano_2 : List UInt8 := dkwX8_piano_2 ++ dktX8_piano_3
def dkwX8_piano_1 : List UInt8 := [154, 0, 27, 42, 28, 3, 16, 7, 184, 0, 140, 154, 0, 7, 4, 167, 0, 4, 3, 5, 4, 182, 0, 189]
abbrev dktX8_piano_1 : List UInt8 := dkwX8_piano_1 ++ dktX8_piano_2
def dkwX8_piano_0 : List UInt8 := [42, 3, 181, 0, 106, 42, 42, 27, 182, 1, 89, 154, 0, 7, 4, 167, 0, 4, 3, 4, 3, 182, 0, 189]
abbrev dktX8_piano_0 : List UInt8 := dkwX8_piano_0 ++ dktX8_piano_1
theorem dksX8_piano_0 : cX8_piano.data.toList.drop 0 = dktX8_piano_0 := by decide +kernel
theorem dksX8_piano_1 : cX8_piano.data.toList.drop 24 = dktX8_piano_1 := dk_seg dksX8_piano_0 24 rfl rfl
theorem dksX8_piano_2 : cX8_piano.data.toList.drop 48 = dktX8_piano_2 := dk_seg dksX8_piano_1 24 rfl rfl
theorem dksX8_piano_3 : cX8_piano.data.toList.drop 54 = dktX8_piano_3 := dk_seg dksX8_piano_2 6 rfl rfl
theorem dksX8_piano_4 : cX8_piano.data.toList.drop 96 = dktX8_piano_4 := dk_seg dksX8_piano_3 42 rfl rfl
theorem dksX8_piano_5 : cX8_piano.data.toList.drop 119 = dktX8_piano_5 := dk_seg dksX8_piano_4 23 rfl rfl
theorem dksX8_piano_6 : cX8_piano.data.toList.drop 141 = dktX8_piano_6 := dk_seg dksX8_piano_5 22 rfl rfl
theorem dX8_piano_0 : decode cX8_piano 0 = .ok (.aload_n 0, 1) := dk_42 (dk_at dksX8_piano_0 0 rfl rfl)
theorem dX8_piano_1 : decode cX8_piano 1 = .ok (.iconst 0, 1) := dk_3 (dk_at dksX8_piano_0 1 rfl rfl)
theorem dX8_piano_2 : decode cX8_piano 2 = .ok (.putfield 106, 3) := dk_181 0 106 (dk_at dksX8_piano_0 2 rfl rfl)
theorem dX8_piano_5 : decode cX8_piano 5 = .ok (.aload_n 0, 1) := dk_42 (dk_at dksX8_piano_0 5 rfl rfl)
theorem dX8_piano_6 : decode cX8_piano 6 = .ok (.aload_n 0, 1) := dk_42 (dk_at dksX8_piano_0 6 rfl rfl)
theorem dX8_piano_7 : decode cX8_piano 7 = .ok (.iload_n 1, 1) := dk_27 (dk_at dksX8_piano_0 7 rfl rfl)
theorem dX8_piano_8 : decode cX8_piano 8 = .ok (.invokevirtual 345, 3) := dk_182 1 89 (dk_at dksX8_piano_0 8 rfl rfl)
theorem dX8_piano_11 : decode cX8_piano 11 = .ok (.ifCond .ne 7, 3) := dk_154 0 7 (dk_at dksX8_piano_0 11 rfl rfl)
theorem dX8_piano_14 : decode cX8_piano 14 = .ok (.iconst 1, 1) := dk_4 (dk_at dksX8_piano_0 14 rfl rfl)
theorem dX8_piano_15 : decode cX8_piano 15 = .ok (.goto 4, 3) := dk_167 0 4 (dk_at dksX8_piano_0 15 rfl rfl)
theorem dX8_piano_18 : decode cX8_piano 18 = .ok (.iconst 0, 1) := dk_3 (dk_at dksX8_piano_0 18 rfl rfl)
theorem dX8_piano_19 : decode cX8_piano 19 = .ok (.iconst 1, 1) := dk_4 (dk_at dksX8_piano_0 19 rfl rfl)
theorem dX8_piano_20 : decode cX8_piano 20 = .ok (.iconst 0, 1) := dk_3 (dk_at dksX8_piano_0 20 rfl rfl)
theorem dX8_piano_21 : decode cX8_piano 21 = .ok (.invokevirtual 189, 3) := dk_182 0 189 (dk_at dksX8_piano_0 21 rfl rfl)
theorem dX8_piano_24 : decode cX8_piano 24 = .ok (.ifCond .ne 27, 3) := dk_154 0 27 (dk_at dksX8_piano_1 0 rfl rfl)
theorem dX8_piano_27 : decode cX8_piano 27 = .ok (.aload_n 0, 1) := dk_42 (dk_at dksX8_piano_1 3 rfl rfl)
theorem dX8_piano_28 : decode cX8_piano 28 = .ok (.iload_n 2, 1) := dk_28 (dk_at dksX8_piano_1 4 rfl rfl)
theorem dX8_piano_29 : decode cX8_piano 29 = .ok (.iconst 0, 1) := dk_3 (dk_at dksX8_piano_1 5 rfl rfl)
theorem dX8_piano_30 : decode cX8_piano 30 = .ok (.bipush 7, 2) := dk_16 7 (dk_at dksX8_piano_1 6 rfl rfl)
theorem dX8_piano_32 : decode cX8_piano 32 = .ok (.invokestatic 140, 3) := dk_184 0 140 (dk_at dksX8_piano_1 8 rfl rfl)
theorem dX8_piano_35 : decode cX8_piano 35 = .ok (.ifCond .ne 7, 3) := dk_154 0 7 (dk_at dksX8_piano_1 11 rfl rfl)
theorem dX8_piano_38 : decode cX8_piano 38 = .ok (.iconst 1, 1) := dk_4 (dk_at dksX8_piano_1 14 rfl rfl)
theorem dX8_piano_39 : decode cX8_piano 39 = .ok (.goto 4, 3) := dk_167 0 4 (dk_at dksX8_piano_1 15 rfl rfl)
theorem dX8_piano_42 : decode cX8_piano 42 = .ok (.iconst 0, 1) := dk_3 (dk_at dksX8_piano_1 18 rfl rfl)
theorem dX8_piano_43 : decode cX8_piano 43 = .ok (.iconst 2, 1) := dk_5 (dk_at dksX8_piano_1 19 rfl rfl)
theorem dX8_piano_44 : decode cX8_piano 44 = .ok (.iconst 1, 1) := dk_4 (dk_at dksX8_piano_1 20 rfl rfl)
theorem dX8_piano_45 : decode cX8_piano 45 = .ok (.invokevirtual 189, 3) := dk_182 0 189 (dk_at dksX8_piano_1 21 rfl rfl)
theorem dX8_piano_48 : decode cX8_piano 48 = .ok (.ifCond .eq 5, 3) := dk_153 0 5 (dk_at dksX8_piano_2 0 rfl rfl)
theorem dX8_piano_51 : decode cX8_piano 51 = .ok (.iconst 0, 1) := dk_3 (dk_at dksX8_piano_2 3 rfl rfl)
theorem dX8_piano_52 : decode cX8_piano 52 = .ok (.ireturn, 1) := dk_172 (dk_at dksX8_piano_2 4 rfl rfl)
theorem dX8_piano_53 : decode cX8_piano 53 = .ok (.iload_n 2, 1) := dk_28 (dk_at dksX8_piano_2 5 rfl rfl)
theorem dX8_piano_54 : decode cX8_piano 54 = .ok (.tableswitch 101 0 6 #[42, 42, 51, 61, 71, 81, 91], 42) := by decide +kernel
theorem dX8_piano_96 : decode cX8_piano 96 = .ok (.aload_n 0, 1) := dk_42 (dk_at dksX8_piano_4 0 rfl rfl)
theorem dX8_piano_97 : decode cX8_piano 97 = .ok (.getfield 49, 3) := dk_180 0 49 (dk_at dksX8_piano_4 1 rfl rfl)
theorem dX8_piano_100 : decode cX8_piano 100 = .ok (.iload_n 1, 1) := dk_27 (dk_at dksX8_piano_4 4 rfl rfl)
theorem dX8_piano_101 : decode cX8_piano 101 = .ok (.aaload, 1) := dk_50 (dk_at dksX8_piano_4 5 rfl rfl)
theorem dX8_piano_102 : decode cX8_piano 102 = .ok (.iload_n 2, 1) := dk_28 (dk_at dksX8_piano_4 6 rfl rfl)
theorem dX8_piano_103 : decode cX8_piano 103 = .ok (.iaload, 1) := dk_46 (dk_at dksX8_piano_4 7 rfl rfl)
theorem dX8_piano_104 : decode cX8_piano 104 = .ok (.ireturn, 1) := dk_172 (dk_at dksX8_piano_4 8 rfl rfl)
theorem dX8_piano_105 : decode cX8_piano 105 = .ok (.aload_n 0, 1) := dk_42 (dk_at dksX8_piano_4 9 rfl rfl)
theorem dX8_piano_106 : decode cX8_piano 106 = .ok (.getfield 73, 3) := dk_180 0 73 (dk_at dksX8_piano_4 10 rfl rfl)
theorem dX8_piano_109 : decode cX8_piano 109 = .ok (.bipush 80, 2) := dk_16 80 (dk_at dksX8_piano_4 13 rfl rfl)
theorem dX8_piano_111 : decode cX8_piano 111 = .ok (.iload_n 1, 1) := dk_27 (dk_at dksX8_piano_4 15 rfl rfl)
theorem dX8_piano_112 : decode cX8_piano 112 = .ok (.iadd, 1) := dk_96 (dk_at dksX8_piano_4 16 rfl rfl)
theorem dX8_piano_113 : decode cX8_piano 113 = .ok (.iaload, 1) := dk_46 (dk_at dksX8_piano_4 17 rfl rfl)
theorem dX8_piano_114 : decode cX8_piano 114 = .ok (.ireturn, 1) := dk_172 (dk_at dksX8_piano_4 18 rfl rfl)
theorem dX8_piano_115 : decode cX8_piano 115 = .ok (.aload_n 0, 1) := dk_42 (dk_at dksX8_piano_4 19 rfl rfl)
theorem dX8_piano_116 : decode cX8_piano 116 = .ok (.getfield 73, 3) := dk_180 0 73 (dk_at dksX8_piano_4 20 rfl rfl)
theorem dX8_piano_119 : decode cX8_piano 119 = .ok (.bipush 86, 2) := dk_16 86 (dk_at dksX8_piano_5 0 rfl rfl)
theorem dX8_piano_121 : decode cX8_piano 121 = .ok (.iload_n 1, 1) := dk_27 (dk_at dksX8_piano_5 2 rfl rfl)
theorem dX8_piano_122 : decode cX8_piano 122 = .ok (.iadd, 1) := dk_96 (dk_at dksX8_piano_5 3 rfl rfl)
theorem dX8_piano_123 : decode cX8_piano 123 = .ok (.iaload, 1) := dk_46 (dk_at dksX8_piano_5 4 rfl rfl)
theorem dX8_piano_124 : decode cX8_piano 124 = .ok (.ireturn, 1) := dk_172 (dk_at dksX8_piano_5 5 rfl rfl)
theorem dX8_piano_125 : decode cX8_piano 125 = .ok (.aload_n 0, 1) := dk_42 (dk_at dksX8_piano_5 6 rfl rfl)
theorem dX8_piano_126 : decode cX8_piano 126 = .ok (.getfield 73, 3) := dk_180 0 73 (dk_at dksX8_piano_5 7 rfl rfl)
theorem dX8_piano_129 : decode cX8_piano 129 = .ok (.bipush 92, 2) := dk_16 92 (dk_at dksX8_piano_5 10 rfl rfl)
theorem dX8_piano_131 : decode cX8_piano 131 = .ok (.iload_n 1, 1) := dk_27 (dk_at dksX8_piano_5 12 rfl rfl)
theorem dX8_piano_132 : decode cX8_piano 132 = .ok (.iadd, 1) := dk_96 (dk_at dksX8_piano_5 13 rfl rfl)
theorem dX8_piano_133 : decode cX8_piano 133 = .ok (.iaload, 1) := dk_46 (dk_at dksX8_piano_5 14 rfl rfl)
theorem dX8_piano_134 : decode cX8_piano 134 = .ok (.ireturn, 1) := dk_172 (dk_at dksX8_piano_5 15 rfl rfl)
theorem dX8_piano_135 : decode cX8_piano 135 = .ok (.aload_n 0, 1) := dk_42 (dk_at dksX8_piano_5 16 rfl rfl)
theorem dX8_piano_136 : decode cX8_piano 136 = .ok (.aload_n 0, 1) := dk_42 (dk_at dksX8_piano_5 17 rfl rfl)
theorem dX8_piano_137 : decode cX8_piano 137 = .ok (.getfield 73, 3) := dk_180 0 73 (dk_at dksX8_piano_5 18 rfl rfl)
theorem dX8_piano_140 : decode cX8_piano 140 = .ok (.iload_n 1, 1) := dk_27 (dk_at dksX8_piano_5 21 rfl rfl)
theorem dX8_piano_141 : decode cX8_piano 141 = .ok (.invokevirtual 286, 3) := dk_182 1 30 (dk_at dksX8_piano_6 0 rfl rfl)
theorem dX8_piano_144 : decode cX8_piano 144 = .ok (.ireturn, 1) := dk_172 (dk_at dksX8_piano_6 3 rfl rfl)
theorem dX8_piano_145 : decode cX8_piano 145 = .ok (.aload_n 0, 1) := dk_42 (dk_at dksX8_piano_6 4 rfl rfl)
theorem dX8_piano_146 : decode cX8_piano 146 = .ok (.aload_n 0, 1) := dk_42 (dk_at dksX8_piano_6 5 rfl rfl)
theorem dX8_piano_147 : decode cX8_piano 147 = .ok (.getfield 73, 3) := dk_180 0 73 (dk_at dksX8_piano_6 6 rfl rfl)
theorem dX8_piano_150 : decode cX8_piano 150 = .ok (.iload_n 1, 1) := dk_27 (dk_at dksX8_piano_6 9 rfl rfl)
theorem dX8_piano_151 : decode cX8_piano 151 = .ok (.invokevirtual 296, 3) := dk_182 1 40 (dk_at dksX8_piano_6 10 rfl rfl)
theorem dX8_piano_154 : decode cX8_piano 154 = .ok (.ireturn, 1) := dk_172 (dk_at dksX8_piano_6 13 rfl rfl)
theorem dX8_piano_155 : decode cX8_piano 155 = .ok (.aload_n 0, 1) := dk_42 (dk_at dksX8_piano_6 14 rfl rfl)
theorem dX8_piano_156 : decode cX8_piano 156 = .ok (.aload_n 0, 1) := dk_42 (dk_at dksX8_piano_6 15 rfl rfl)
theorem dX8_piano_157 : decode cX8_piano 157 = .ok (.getfield 73, 3) := dk_180 0 73 (dk_at dksX8_piano_6 16 rfl rfl)
theorem dX8_piano_160 : decode cX8_piano 160 = .ok (.iload_n 1, 1) := dk_27 (dk_at dksX8_piano_6 19 rfl rfl)
theorem dX8_piano_161 : decode cX8_piano 161 = .ok (.invokevirtual 329, 3) := dk_182 1 73 (dk_at dksX8_piano_6 20 rfl rfl)
theorem dX8_piano_164 : decode cX8_piano 164 = .ok (.ireturn, 1) := dk_172 (dk_at dksX8_piano_6 23 rfl rfl)
abbrev cX8_isPiano : ByteArray := prog_30_method_69_code
def yX8_isPiano : MethodName := ⟨RX8, "isPiano", "(I)Z"⟩
def dkwX8_isPiano_0 : List UInt8 := [27, 3, 42, 180, 0, 23, 5, 46, 4, 100, 184, 0, 140, 172]
abbrev dktX8_isPiano_0 : List UInt8 := dkwX8_isPiano_0 ++ []
theorem dksX8_isPiano_0 : cX8_isPiano.data.toList.drop 0 = dktX8_isPiano_0 := by decide +kernel
theorem dX8_isPiano_0 : decode cX8_isPiano 0 = .ok (.iload_n 1, 1) := dk_27 (dk_at dksX8_isPiano_0 0 rfl rfl)
theorem dX8_isPiano_1 : decode cX8_isPiano 1 = .ok (.iconst 0, 1) := dk_3 (dk_at dksX8_isPiano_0 1 rfl rfl)
theorem dX8_isPiano_2 : decode cX8_isPiano 2 = .ok (.aload_n 0, 1) := dk_42 (dk_at dksX8_isPiano_0 2 rfl rfl)
theorem dX8_isPiano_3 : decode cX8_isPiano 3 = .ok (.getfield 23, 3) := dk_180 0 23 (dk_at dksX8_isPiano_0 3 rfl rfl)
theorem dX8_isPiano_6 : decode cX8_isPiano 6 = .ok (.iconst 2, 1) := dk_5 (dk_at dksX8_isPiano_0 6 rfl rfl)
theorem dX8_isPiano_7 : decode cX8_isPiano 7 = .ok (.iaload, 1) := dk_46 (dk_at dksX8_isPiano_0 7 rfl rfl)
theorem dX8_isPiano_8 : decode cX8_isPiano 8 = .ok (.iconst 1, 1) := dk_4 (dk_at dksX8_isPiano_0 8 rfl rfl)
theorem dX8_isPiano_9 : decode cX8_isPiano 9 = .ok (.isub, 1) := dk_100 (dk_at dksX8_isPiano_0 9 rfl rfl)
theorem dX8_isPiano_10 : decode cX8_isPiano 10 = .ok (.invokestatic 140, 3) := dk_184 0 140 (dk_at dksX8_isPiano_0 10 rfl rfl)
theorem dX8_isPiano_13 : decode cX8_isPiano 13 = .ok (.ireturn, 1) := dk_172 (dk_at dksX8_isPiano_0 13 rfl rfl)
abbrev cX8_would : ByteArray := prog_30_method_75_code
def yX8_would : MethodName := ⟨RX8, "would", "(IIIIIIII)I"⟩
def dkwX8_would_5 : List UInt8 := [21, 8, 182, 1, 22, 172]
abbrev dktX8_would_5 : List UInt8 := dkwX8_would_5 ++ []
def dkwX8_would_4 : List UInt8 := [3, 4, 4, 182, 0, 189, 153, 0, 5, 3, 172, 42, 27, 28, 29, 21, 4, 21, 5, 21, 6, 21, 7]
abbrev dktX8_would_4 : List UInt8 := dkwX8_would_4 ++ dktX8_would_5
def dkwX8_would_3 : List UInt8 := [16, 7, 184, 0, 140, 153, 0, 15, 21, 8, 3, 17, 1, 244, 184, 0, 140, 154, 0, 7, 4, 167, 0, 4]
abbrev dktX8_would_3 : List UInt8 := dkwX8_would_3 ++ dktX8_would_4
def dkwX8_would_2 : List UInt8 := [153, 0, 44, 21, 5, 184, 1, 86, 153, 0, 36, 21, 6, 3, 8, 184, 0, 140, 153, 0, 26, 21, 7, 3]
abbrev dktX8_would_2 : List UInt8 := dkwX8_would_2 ++ dktX8_would_3
def dkwX8_would_1 : List UInt8 := [153, 0, 66, 29, 3, 17, 3, 231, 184, 0, 140, 153, 0, 55, 21, 4, 3, 16, 99, 184, 0, 140]
abbrev dktX8_would_1 : List UInt8 := dkwX8_would_1 ++ dktX8_would_2
def dkwX8_would_0 : List UInt8 := [42, 3, 181, 0, 106, 42, 27, 4, 16, 9, 184, 0, 140, 153, 0, 76, 28, 3, 16, 9, 184, 0, 140]
abbrev dktX8_would_0 : List UInt8 := dkwX8_would_0 ++ dktX8_would_1
theorem dksX8_would_0 : cX8_would.data.toList.drop 0 = dktX8_would_0 := by decide +kernel
theorem dksX8_would_1 : cX8_would.data.toList.drop 23 = dktX8_would_1 := dk_seg dksX8_would_0 23 rfl rfl
theorem dksX8_would_2 : cX8_would.data.toList.drop 45 = dktX8_would_2 := dk_seg dksX8_would_1 22 rfl rfl
theorem dksX8_would_3 : cX8_would.data.toList.drop 69 = dktX8_would_3 := dk_seg dksX8_would_2 24 rfl rfl
theorem dksX8_would_4 : cX8_would.data.toList.drop 93 = dktX8_would_4 := dk_seg dksX8_would_3 24 rfl rfl
theorem dksX8_would_5 : cX8_would.data.toList.drop 116 = dktX8_would_5 := dk_seg dksX8_would_4 23 rfl rfl
theorem dX8_would_0 : decode cX8_would 0 = .ok (.aload_n 0, 1) := dk_42 (dk_at dksX8_would_0 0 rfl rfl)
theorem dX8_would_1 : decode cX8_would 1 = .ok (.iconst 0, 1) := dk_3 (dk_at dksX8_would_0 1 rfl rfl)
theorem dX8_would_2 : decode cX8_would 2 = .ok (.putfield 106, 3) := dk_181 0 106 (dk_at dksX8_would_0 2 rfl rfl)
theorem dX8_would_5 : decode cX8_would 5 = .ok (.aload_n 0, 1) := dk_42 (dk_at dksX8_would_0 5 rfl rfl)
theorem dX8_would_6 : decode cX8_would 6 = .ok (.iload_n 1, 1) := dk_27 (dk_at dksX8_would_0 6 rfl rfl)
theorem dX8_would_7 : decode cX8_would 7 = .ok (.iconst 1, 1) := dk_4 (dk_at dksX8_would_0 7 rfl rfl)
theorem dX8_would_8 : decode cX8_would 8 = .ok (.bipush 9, 2) := dk_16 9 (dk_at dksX8_would_0 8 rfl rfl)
theorem dX8_would_10 : decode cX8_would 10 = .ok (.invokestatic 140, 3) := dk_184 0 140 (dk_at dksX8_would_0 10 rfl rfl)
theorem dX8_would_13 : decode cX8_would 13 = .ok (.ifCond .eq 76, 3) := dk_153 0 76 (dk_at dksX8_would_0 13 rfl rfl)
theorem dX8_would_16 : decode cX8_would 16 = .ok (.iload_n 2, 1) := dk_28 (dk_at dksX8_would_0 16 rfl rfl)
theorem dX8_would_17 : decode cX8_would 17 = .ok (.iconst 0, 1) := dk_3 (dk_at dksX8_would_0 17 rfl rfl)
theorem dX8_would_18 : decode cX8_would 18 = .ok (.bipush 9, 2) := dk_16 9 (dk_at dksX8_would_0 18 rfl rfl)
theorem dX8_would_20 : decode cX8_would 20 = .ok (.invokestatic 140, 3) := dk_184 0 140 (dk_at dksX8_would_0 20 rfl rfl)
theorem dX8_would_23 : decode cX8_would 23 = .ok (.ifCond .eq 66, 3) := dk_153 0 66 (dk_at dksX8_would_1 0 rfl rfl)
theorem dX8_would_26 : decode cX8_would 26 = .ok (.iload_n 3, 1) := dk_29 (dk_at dksX8_would_1 3 rfl rfl)
theorem dX8_would_27 : decode cX8_would 27 = .ok (.iconst 0, 1) := dk_3 (dk_at dksX8_would_1 4 rfl rfl)
theorem dX8_would_28 : decode cX8_would 28 = .ok (.sipush 999, 3) := dk_17 3 231 (dk_at dksX8_would_1 5 rfl rfl)
theorem dX8_would_31 : decode cX8_would 31 = .ok (.invokestatic 140, 3) := dk_184 0 140 (dk_at dksX8_would_1 8 rfl rfl)
theorem dX8_would_34 : decode cX8_would 34 = .ok (.ifCond .eq 55, 3) := dk_153 0 55 (dk_at dksX8_would_1 11 rfl rfl)
theorem dX8_would_37 : decode cX8_would 37 = .ok (.iload 4, 2) := dk_21 4 (dk_at dksX8_would_1 14 rfl rfl)
theorem dX8_would_39 : decode cX8_would 39 = .ok (.iconst 0, 1) := dk_3 (dk_at dksX8_would_1 16 rfl rfl)
theorem dX8_would_40 : decode cX8_would 40 = .ok (.bipush 99, 2) := dk_16 99 (dk_at dksX8_would_1 17 rfl rfl)
theorem dX8_would_42 : decode cX8_would 42 = .ok (.invokestatic 140, 3) := dk_184 0 140 (dk_at dksX8_would_1 19 rfl rfl)
theorem dX8_would_45 : decode cX8_would 45 = .ok (.ifCond .eq 44, 3) := dk_153 0 44 (dk_at dksX8_would_2 0 rfl rfl)
theorem dX8_would_48 : decode cX8_would 48 = .ok (.iload 5, 2) := dk_21 5 (dk_at dksX8_would_2 3 rfl rfl)
theorem dX8_would_50 : decode cX8_would 50 = .ok (.invokestatic 342, 3) := dk_184 1 86 (dk_at dksX8_would_2 5 rfl rfl)
theorem dX8_would_53 : decode cX8_would 53 = .ok (.ifCond .eq 36, 3) := dk_153 0 36 (dk_at dksX8_would_2 8 rfl rfl)
theorem dX8_would_56 : decode cX8_would 56 = .ok (.iload 6, 2) := dk_21 6 (dk_at dksX8_would_2 11 rfl rfl)
theorem dX8_would_58 : decode cX8_would 58 = .ok (.iconst 0, 1) := dk_3 (dk_at dksX8_would_2 13 rfl rfl)
theorem dX8_would_59 : decode cX8_would 59 = .ok (.iconst 5, 1) := dk_8 (dk_at dksX8_would_2 14 rfl rfl)
theorem dX8_would_60 : decode cX8_would 60 = .ok (.invokestatic 140, 3) := dk_184 0 140 (dk_at dksX8_would_2 15 rfl rfl)
theorem dX8_would_63 : decode cX8_would 63 = .ok (.ifCond .eq 26, 3) := dk_153 0 26 (dk_at dksX8_would_2 18 rfl rfl)
theorem dX8_would_66 : decode cX8_would 66 = .ok (.iload 7, 2) := dk_21 7 (dk_at dksX8_would_2 21 rfl rfl)
theorem dX8_would_68 : decode cX8_would 68 = .ok (.iconst 0, 1) := dk_3 (dk_at dksX8_would_2 23 rfl rfl)
theorem dX8_would_69 : decode cX8_would 69 = .ok (.bipush 7, 2) := dk_16 7 (dk_at dksX8_would_3 0 rfl rfl)
theorem dX8_would_71 : decode cX8_would 71 = .ok (.invokestatic 140, 3) := dk_184 0 140 (dk_at dksX8_would_3 2 rfl rfl)
theorem dX8_would_74 : decode cX8_would 74 = .ok (.ifCond .eq 15, 3) := dk_153 0 15 (dk_at dksX8_would_3 5 rfl rfl)
theorem dX8_would_77 : decode cX8_would 77 = .ok (.iload 8, 2) := dk_21 8 (dk_at dksX8_would_3 8 rfl rfl)
theorem dX8_would_79 : decode cX8_would 79 = .ok (.iconst 0, 1) := dk_3 (dk_at dksX8_would_3 10 rfl rfl)
theorem dX8_would_80 : decode cX8_would 80 = .ok (.sipush 500, 3) := dk_17 1 244 (dk_at dksX8_would_3 11 rfl rfl)
theorem dX8_would_83 : decode cX8_would 83 = .ok (.invokestatic 140, 3) := dk_184 0 140 (dk_at dksX8_would_3 14 rfl rfl)
theorem dX8_would_86 : decode cX8_would 86 = .ok (.ifCond .ne 7, 3) := dk_154 0 7 (dk_at dksX8_would_3 17 rfl rfl)
theorem dX8_would_89 : decode cX8_would 89 = .ok (.iconst 1, 1) := dk_4 (dk_at dksX8_would_3 20 rfl rfl)
theorem dX8_would_90 : decode cX8_would 90 = .ok (.goto 4, 3) := dk_167 0 4 (dk_at dksX8_would_3 21 rfl rfl)
theorem dX8_would_93 : decode cX8_would 93 = .ok (.iconst 0, 1) := dk_3 (dk_at dksX8_would_4 0 rfl rfl)
theorem dX8_would_94 : decode cX8_would 94 = .ok (.iconst 1, 1) := dk_4 (dk_at dksX8_would_4 1 rfl rfl)
theorem dX8_would_95 : decode cX8_would 95 = .ok (.iconst 1, 1) := dk_4 (dk_at dksX8_would_4 2 rfl rfl)
theorem dX8_would_96 : decode cX8_would 96 = .ok (.invokevirtual 189, 3) := dk_182 0 189 (dk_at dksX8_would_4 3 rfl rfl)
theorem dX8_would_99 : decode cX8_would 99 = .ok (.ifCond .eq 5, 3) := dk_153 0 5 (dk_at dksX8_would_4 6 rfl rfl)
theorem dX8_would_102 : decode cX8_would 102 = .ok (.iconst 0, 1) := dk_3 (dk_at dksX8_would_4 9 rfl rfl)
theorem dX8_would_103 : decode cX8_would 103 = .ok (.ireturn, 1) := dk_172 (dk_at dksX8_would_4 10 rfl rfl)
theorem dX8_would_104 : decode cX8_would 104 = .ok (.aload_n 0, 1) := dk_42 (dk_at dksX8_would_4 11 rfl rfl)
theorem dX8_would_105 : decode cX8_would 105 = .ok (.iload_n 1, 1) := dk_27 (dk_at dksX8_would_4 12 rfl rfl)
theorem dX8_would_106 : decode cX8_would 106 = .ok (.iload_n 2, 1) := dk_28 (dk_at dksX8_would_4 13 rfl rfl)
theorem dX8_would_107 : decode cX8_would 107 = .ok (.iload_n 3, 1) := dk_29 (dk_at dksX8_would_4 14 rfl rfl)
theorem dX8_would_108 : decode cX8_would 108 = .ok (.iload 4, 2) := dk_21 4 (dk_at dksX8_would_4 15 rfl rfl)
theorem dX8_would_110 : decode cX8_would 110 = .ok (.iload 5, 2) := dk_21 5 (dk_at dksX8_would_4 17 rfl rfl)
theorem dX8_would_112 : decode cX8_would 112 = .ok (.iload 6, 2) := dk_21 6 (dk_at dksX8_would_4 19 rfl rfl)
theorem dX8_would_114 : decode cX8_would 114 = .ok (.iload 7, 2) := dk_21 7 (dk_at dksX8_would_4 21 rfl rfl)
theorem dX8_would_116 : decode cX8_would 116 = .ok (.iload 8, 2) := dk_21 8 (dk_at dksX8_would_5 0 rfl rfl)
theorem dX8_would_118 : decode cX8_would 118 = .ok (.invokevirtual 278, 3) := dk_182 1 22 (dk_at dksX8_would_5 2 rfl rfl)
theorem dX8_would_121 : decode cX8_would 121 = .ok (.ireturn, 1) := dk_172 (dk_at dksX8_would_5 5 rfl rfl)
abbrev cX8_ahead : ByteArray := prog_30_method_76_code
def yX8_ahead : MethodName := ⟨RX8, "ahead", "(III)I"⟩
def dkwX8_ahead_5 : List UInt8 := [42, 180, 0, 76, 27, 21, 4, 182, 1, 67, 172]
abbrev dktX8_ahead_5 : List UInt8 := dkwX8_ahead_5 ++ []
def dkwX8_ahead_4 : List UInt8 := [167, 255, 239, 42, 42, 180, 0, 76, 27, 182, 1, 70, 54, 4, 29, 154, 0, 8, 21, 4, 167, 0, 14, 42]
abbrev dktX8_ahead_4 : List UInt8 := dkwX8_ahead_4 ++ dktX8_ahead_5
def dkwX8_ahead_3 : List UInt8 := [184, 1, 63, 3, 54, 4, 21, 4, 28, 162, 0, 17, 42, 42, 180, 0, 76, 182, 1, 46, 132, 4, 1]
abbrev dktX8_ahead_3 : List UInt8 := dkwX8_ahead_3 ++ dktX8_ahead_4
def dkwX8_ahead_2 : List UInt8 := [167, 0, 4, 3, 5, 4, 182, 0, 189, 153, 0, 5, 3, 172, 42, 180, 0, 73, 42, 180, 0, 76]
abbrev dktX8_ahead_2 : List UInt8 := dkwX8_ahead_2 ++ dktX8_ahead_3
def dkwX8_ahead_1 : List UInt8 := [154, 0, 36, 42, 28, 3, 16, 99, 184, 0, 140, 153, 0, 12, 29, 3, 4, 184, 0, 140, 154, 0, 7, 4]
abbrev dktX8_ahead_1 : List UInt8 := dkwX8_ahead_1 ++ dktX8_ahead_2
def dkwX8_ahead_0 : List UInt8 := [42, 3, 181, 0, 106, 42, 42, 27, 182, 1, 83, 154, 0, 7, 4, 167, 0, 4, 3, 4, 3, 182, 0, 189]
abbrev dktX8_ahead_0 : List UInt8 := dkwX8_ahead_0 ++ dktX8_ahead_1
theorem dksX8_ahead_0 : cX8_ahead.data.toList.drop 0 = dktX8_ahead_0 := by decide +kernel
theorem dksX8_ahead_1 : cX8_ahead.data.toList.drop 24 = dktX8_ahead_1 := dk_seg dksX8_ahead_0 24 rfl rfl
theorem dksX8_ahead_2 : cX8_ahead.data.toList.drop 48 = dktX8_ahead_2 := dk_seg dksX8_ahead_1 24 rfl rfl
theorem dksX8_ahead_3 : cX8_ahead.data.toList.drop 70 = dktX8_ahead_3 := dk_seg dksX8_ahead_2 22 rfl rfl
theorem dksX8_ahead_4 : cX8_ahead.data.toList.drop 93 = dktX8_ahead_4 := dk_seg dksX8_ahead_3 23 rfl rfl
theorem dksX8_ahead_5 : cX8_ahead.data.toList.drop 117 = dktX8_ahead_5 := dk_seg dksX8_ahead_4 24 rfl rfl
theorem dX8_ahead_0 : decode cX8_ahead 0 = .ok (.aload_n 0, 1) := dk_42 (dk_at dksX8_ahead_0 0 rfl rfl)
theorem dX8_ahead_1 : decode cX8_ahead 1 = .ok (.iconst 0, 1) := dk_3 (dk_at dksX8_ahead_0 1 rfl rfl)
theorem dX8_ahead_2 : decode cX8_ahead 2 = .ok (.putfield 106, 3) := dk_181 0 106 (dk_at dksX8_ahead_0 2 rfl rfl)
theorem dX8_ahead_5 : decode cX8_ahead 5 = .ok (.aload_n 0, 1) := dk_42 (dk_at dksX8_ahead_0 5 rfl rfl)
theorem dX8_ahead_6 : decode cX8_ahead 6 = .ok (.aload_n 0, 1) := dk_42 (dk_at dksX8_ahead_0 6 rfl rfl)
theorem dX8_ahead_7 : decode cX8_ahead 7 = .ok (.iload_n 1, 1) := dk_27 (dk_at dksX8_ahead_0 7 rfl rfl)
theorem dX8_ahead_8 : decode cX8_ahead 8 = .ok (.invokevirtual 339, 3) := dk_182 1 83 (dk_at dksX8_ahead_0 8 rfl rfl)
theorem dX8_ahead_11 : decode cX8_ahead 11 = .ok (.ifCond .ne 7, 3) := dk_154 0 7 (dk_at dksX8_ahead_0 11 rfl rfl)
theorem dX8_ahead_14 : decode cX8_ahead 14 = .ok (.iconst 1, 1) := dk_4 (dk_at dksX8_ahead_0 14 rfl rfl)
theorem dX8_ahead_15 : decode cX8_ahead 15 = .ok (.goto 4, 3) := dk_167 0 4 (dk_at dksX8_ahead_0 15 rfl rfl)
theorem dX8_ahead_18 : decode cX8_ahead 18 = .ok (.iconst 0, 1) := dk_3 (dk_at dksX8_ahead_0 18 rfl rfl)
theorem dX8_ahead_19 : decode cX8_ahead 19 = .ok (.iconst 1, 1) := dk_4 (dk_at dksX8_ahead_0 19 rfl rfl)
theorem dX8_ahead_20 : decode cX8_ahead 20 = .ok (.iconst 0, 1) := dk_3 (dk_at dksX8_ahead_0 20 rfl rfl)
theorem dX8_ahead_21 : decode cX8_ahead 21 = .ok (.invokevirtual 189, 3) := dk_182 0 189 (dk_at dksX8_ahead_0 21 rfl rfl)
theorem dX8_ahead_24 : decode cX8_ahead 24 = .ok (.ifCond .ne 36, 3) := dk_154 0 36 (dk_at dksX8_ahead_1 0 rfl rfl)
theorem dX8_ahead_27 : decode cX8_ahead 27 = .ok (.aload_n 0, 1) := dk_42 (dk_at dksX8_ahead_1 3 rfl rfl)
theorem dX8_ahead_28 : decode cX8_ahead 28 = .ok (.iload_n 2, 1) := dk_28 (dk_at dksX8_ahead_1 4 rfl rfl)
theorem dX8_ahead_29 : decode cX8_ahead 29 = .ok (.iconst 0, 1) := dk_3 (dk_at dksX8_ahead_1 5 rfl rfl)
theorem dX8_ahead_30 : decode cX8_ahead 30 = .ok (.bipush 99, 2) := dk_16 99 (dk_at dksX8_ahead_1 6 rfl rfl)
theorem dX8_ahead_32 : decode cX8_ahead 32 = .ok (.invokestatic 140, 3) := dk_184 0 140 (dk_at dksX8_ahead_1 8 rfl rfl)
theorem dX8_ahead_35 : decode cX8_ahead 35 = .ok (.ifCond .eq 12, 3) := dk_153 0 12 (dk_at dksX8_ahead_1 11 rfl rfl)
theorem dX8_ahead_38 : decode cX8_ahead 38 = .ok (.iload_n 3, 1) := dk_29 (dk_at dksX8_ahead_1 14 rfl rfl)
theorem dX8_ahead_39 : decode cX8_ahead 39 = .ok (.iconst 0, 1) := dk_3 (dk_at dksX8_ahead_1 15 rfl rfl)
theorem dX8_ahead_40 : decode cX8_ahead 40 = .ok (.iconst 1, 1) := dk_4 (dk_at dksX8_ahead_1 16 rfl rfl)
theorem dX8_ahead_41 : decode cX8_ahead 41 = .ok (.invokestatic 140, 3) := dk_184 0 140 (dk_at dksX8_ahead_1 17 rfl rfl)
theorem dX8_ahead_44 : decode cX8_ahead 44 = .ok (.ifCond .ne 7, 3) := dk_154 0 7 (dk_at dksX8_ahead_1 20 rfl rfl)
theorem dX8_ahead_47 : decode cX8_ahead 47 = .ok (.iconst 1, 1) := dk_4 (dk_at dksX8_ahead_1 23 rfl rfl)
theorem dX8_ahead_48 : decode cX8_ahead 48 = .ok (.goto 4, 3) := dk_167 0 4 (dk_at dksX8_ahead_2 0 rfl rfl)
theorem dX8_ahead_51 : decode cX8_ahead 51 = .ok (.iconst 0, 1) := dk_3 (dk_at dksX8_ahead_2 3 rfl rfl)
theorem dX8_ahead_52 : decode cX8_ahead 52 = .ok (.iconst 2, 1) := dk_5 (dk_at dksX8_ahead_2 4 rfl rfl)
theorem dX8_ahead_53 : decode cX8_ahead 53 = .ok (.iconst 1, 1) := dk_4 (dk_at dksX8_ahead_2 5 rfl rfl)
theorem dX8_ahead_54 : decode cX8_ahead 54 = .ok (.invokevirtual 189, 3) := dk_182 0 189 (dk_at dksX8_ahead_2 6 rfl rfl)
theorem dX8_ahead_57 : decode cX8_ahead 57 = .ok (.ifCond .eq 5, 3) := dk_153 0 5 (dk_at dksX8_ahead_2 9 rfl rfl)
theorem dX8_ahead_60 : decode cX8_ahead 60 = .ok (.iconst 0, 1) := dk_3 (dk_at dksX8_ahead_2 12 rfl rfl)
theorem dX8_ahead_61 : decode cX8_ahead 61 = .ok (.ireturn, 1) := dk_172 (dk_at dksX8_ahead_2 13 rfl rfl)
theorem dX8_ahead_62 : decode cX8_ahead 62 = .ok (.aload_n 0, 1) := dk_42 (dk_at dksX8_ahead_2 14 rfl rfl)
theorem dX8_ahead_63 : decode cX8_ahead 63 = .ok (.getfield 73, 3) := dk_180 0 73 (dk_at dksX8_ahead_2 15 rfl rfl)
theorem dX8_ahead_66 : decode cX8_ahead 66 = .ok (.aload_n 0, 1) := dk_42 (dk_at dksX8_ahead_2 18 rfl rfl)
theorem dX8_ahead_67 : decode cX8_ahead 67 = .ok (.getfield 76, 3) := dk_180 0 76 (dk_at dksX8_ahead_2 19 rfl rfl)
theorem dX8_ahead_70 : decode cX8_ahead 70 = .ok (.invokestatic 319, 3) := dk_184 1 63 (dk_at dksX8_ahead_3 0 rfl rfl)
theorem dX8_ahead_73 : decode cX8_ahead 73 = .ok (.iconst 0, 1) := dk_3 (dk_at dksX8_ahead_3 3 rfl rfl)
theorem dX8_ahead_74 : decode cX8_ahead 74 = .ok (.istore 4, 2) := dk_54 4 (dk_at dksX8_ahead_3 4 rfl rfl)
theorem dX8_ahead_76 : decode cX8_ahead 76 = .ok (.iload 4, 2) := dk_21 4 (dk_at dksX8_ahead_3 6 rfl rfl)
theorem dX8_ahead_78 : decode cX8_ahead 78 = .ok (.iload_n 2, 1) := dk_28 (dk_at dksX8_ahead_3 8 rfl rfl)
theorem dX8_ahead_79 : decode cX8_ahead 79 = .ok (.if_icmp .ge 17, 3) := dk_162 0 17 (dk_at dksX8_ahead_3 9 rfl rfl)
theorem dX8_ahead_82 : decode cX8_ahead 82 = .ok (.aload_n 0, 1) := dk_42 (dk_at dksX8_ahead_3 12 rfl rfl)
theorem dX8_ahead_83 : decode cX8_ahead 83 = .ok (.aload_n 0, 1) := dk_42 (dk_at dksX8_ahead_3 13 rfl rfl)
theorem dX8_ahead_84 : decode cX8_ahead 84 = .ok (.getfield 76, 3) := dk_180 0 76 (dk_at dksX8_ahead_3 14 rfl rfl)
theorem dX8_ahead_87 : decode cX8_ahead 87 = .ok (.invokevirtual 302, 3) := dk_182 1 46 (dk_at dksX8_ahead_3 17 rfl rfl)
theorem dX8_ahead_90 : decode cX8_ahead 90 = .ok (.iinc 4 1, 3) := dk_132 4 1 (dk_at dksX8_ahead_3 20 rfl rfl)
theorem dX8_ahead_93 : decode cX8_ahead 93 = .ok (.goto (-17), 3) := dk_167 255 239 (dk_at dksX8_ahead_4 0 rfl rfl)
theorem dX8_ahead_96 : decode cX8_ahead 96 = .ok (.aload_n 0, 1) := dk_42 (dk_at dksX8_ahead_4 3 rfl rfl)
theorem dX8_ahead_97 : decode cX8_ahead 97 = .ok (.aload_n 0, 1) := dk_42 (dk_at dksX8_ahead_4 4 rfl rfl)
theorem dX8_ahead_98 : decode cX8_ahead 98 = .ok (.getfield 76, 3) := dk_180 0 76 (dk_at dksX8_ahead_4 5 rfl rfl)
theorem dX8_ahead_101 : decode cX8_ahead 101 = .ok (.iload_n 1, 1) := dk_27 (dk_at dksX8_ahead_4 8 rfl rfl)
theorem dX8_ahead_102 : decode cX8_ahead 102 = .ok (.invokevirtual 326, 3) := dk_182 1 70 (dk_at dksX8_ahead_4 9 rfl rfl)
theorem dX8_ahead_105 : decode cX8_ahead 105 = .ok (.istore 4, 2) := dk_54 4 (dk_at dksX8_ahead_4 12 rfl rfl)
theorem dX8_ahead_107 : decode cX8_ahead 107 = .ok (.iload_n 3, 1) := dk_29 (dk_at dksX8_ahead_4 14 rfl rfl)
theorem dX8_ahead_108 : decode cX8_ahead 108 = .ok (.ifCond .ne 8, 3) := dk_154 0 8 (dk_at dksX8_ahead_4 15 rfl rfl)
theorem dX8_ahead_111 : decode cX8_ahead 111 = .ok (.iload 4, 2) := dk_21 4 (dk_at dksX8_ahead_4 18 rfl rfl)
theorem dX8_ahead_113 : decode cX8_ahead 113 = .ok (.goto 14, 3) := dk_167 0 14 (dk_at dksX8_ahead_4 20 rfl rfl)
theorem dX8_ahead_116 : decode cX8_ahead 116 = .ok (.aload_n 0, 1) := dk_42 (dk_at dksX8_ahead_4 23 rfl rfl)
theorem dX8_ahead_117 : decode cX8_ahead 117 = .ok (.aload_n 0, 1) := dk_42 (dk_at dksX8_ahead_5 0 rfl rfl)
theorem dX8_ahead_118 : decode cX8_ahead 118 = .ok (.getfield 76, 3) := dk_180 0 76 (dk_at dksX8_ahead_5 1 rfl rfl)
theorem dX8_ahead_121 : decode cX8_ahead 121 = .ok (.iload_n 1, 1) := dk_27 (dk_at dksX8_ahead_5 4 rfl rfl)
theorem dX8_ahead_122 : decode cX8_ahead 122 = .ok (.iload 4, 2) := dk_21 4 (dk_at dksX8_ahead_5 5 rfl rfl)
theorem dX8_ahead_124 : decode cX8_ahead 124 = .ok (.invokevirtual 323, 3) := dk_182 1 67 (dk_at dksX8_ahead_5 7 rfl rfl)
theorem dX8_ahead_127 : decode cX8_ahead 127 = .ok (.ireturn, 1) := dk_172 (dk_at dksX8_ahead_5 10 rfl rfl)
abbrev cX8_when : ByteArray := prog_30_method_77_code
def yX8_when : MethodName := ⟨RX8, "when", "(II)I"⟩
def dkwX8_when_4 : List UInt8 := [167, 255, 223, 2, 172]
abbrev dktX8_when_4 : List UInt8 := dkwX8_when_4 ++ []
def dkwX8_when_3 : List UInt8 := [180, 0, 76, 27, 182, 1, 70, 28, 160, 0, 5, 29, 172, 42, 42, 180, 0, 76, 182, 1, 46, 132, 3, 1]
abbrev dktX8_when_3 : List UInt8 := dkwX8_when_3 ++ dktX8_when_4
def dkwX8_when_2 : List UInt8 := [3, 172, 42, 180, 0, 73, 42, 180, 0, 76, 184, 1, 63, 3, 62, 29, 17, 0, 200, 163, 0, 32, 42, 42]
abbrev dktX8_when_2 : List UInt8 := dkwX8_when_2 ++ dktX8_when_3
def dkwX8_when_1 : List UInt8 := [154, 0, 24, 42, 28, 184, 1, 86, 154, 0, 7, 4, 167, 0, 4, 3, 5, 4, 182, 0, 189, 153, 0, 5]
abbrev dktX8_when_1 : List UInt8 := dkwX8_when_1 ++ dktX8_when_2
def dkwX8_when_0 : List UInt8 := [42, 3, 181, 0, 106, 42, 42, 27, 182, 1, 83, 154, 0, 7, 4, 167, 0, 4, 3, 4, 3, 182, 0, 189]
abbrev dktX8_when_0 : List UInt8 := dkwX8_when_0 ++ dktX8_when_1
theorem dksX8_when_0 : cX8_when.data.toList.drop 0 = dktX8_when_0 := by decide +kernel
theorem dksX8_when_1 : cX8_when.data.toList.drop 24 = dktX8_when_1 := dk_seg dksX8_when_0 24 rfl rfl
theorem dksX8_when_2 : cX8_when.data.toList.drop 48 = dktX8_when_2 := dk_seg dksX8_when_1 24 rfl rfl
theorem dksX8_when_3 : cX8_when.data.toList.drop 72 = dktX8_when_3 := dk_seg dksX8_when_2 24 rfl rfl
theorem dksX8_when_4 : cX8_when.data.toList.drop 96 = dktX8_when_4 := dk_seg dksX8_when_3 24 rfl rfl
theorem dX8_when_0 : decode cX8_when 0 = .ok (.aload_n 0, 1) := dk_42 (dk_at dksX8_when_0 0 rfl rfl)
theorem dX8_when_1 : decode cX8_when 1 = .ok (.iconst 0, 1) := dk_3 (dk_at dksX8_when_0 1 rfl rfl)
theorem dX8_when_2 : decode cX8_when 2 = .ok (.putfield 106, 3) := dk_181 0 106 (dk_at dksX8_when_0 2 rfl rfl)
theorem dX8_when_5 : decode cX8_when 5 = .ok (.aload_n 0, 1) := dk_42 (dk_at dksX8_when_0 5 rfl rfl)
theorem dX8_when_6 : decode cX8_when 6 = .ok (.aload_n 0, 1) := dk_42 (dk_at dksX8_when_0 6 rfl rfl)
theorem dX8_when_7 : decode cX8_when 7 = .ok (.iload_n 1, 1) := dk_27 (dk_at dksX8_when_0 7 rfl rfl)
theorem dX8_when_8 : decode cX8_when 8 = .ok (.invokevirtual 339, 3) := dk_182 1 83 (dk_at dksX8_when_0 8 rfl rfl)
theorem dX8_when_11 : decode cX8_when 11 = .ok (.ifCond .ne 7, 3) := dk_154 0 7 (dk_at dksX8_when_0 11 rfl rfl)
theorem dX8_when_14 : decode cX8_when 14 = .ok (.iconst 1, 1) := dk_4 (dk_at dksX8_when_0 14 rfl rfl)
theorem dX8_when_15 : decode cX8_when 15 = .ok (.goto 4, 3) := dk_167 0 4 (dk_at dksX8_when_0 15 rfl rfl)
theorem dX8_when_18 : decode cX8_when 18 = .ok (.iconst 0, 1) := dk_3 (dk_at dksX8_when_0 18 rfl rfl)
theorem dX8_when_19 : decode cX8_when 19 = .ok (.iconst 1, 1) := dk_4 (dk_at dksX8_when_0 19 rfl rfl)
theorem dX8_when_20 : decode cX8_when 20 = .ok (.iconst 0, 1) := dk_3 (dk_at dksX8_when_0 20 rfl rfl)
theorem dX8_when_21 : decode cX8_when 21 = .ok (.invokevirtual 189, 3) := dk_182 0 189 (dk_at dksX8_when_0 21 rfl rfl)
theorem dX8_when_24 : decode cX8_when 24 = .ok (.ifCond .ne 24, 3) := dk_154 0 24 (dk_at dksX8_when_1 0 rfl rfl)
theorem dX8_when_27 : decode cX8_when 27 = .ok (.aload_n 0, 1) := dk_42 (dk_at dksX8_when_1 3 rfl rfl)
theorem dX8_when_28 : decode cX8_when 28 = .ok (.iload_n 2, 1) := dk_28 (dk_at dksX8_when_1 4 rfl rfl)
theorem dX8_when_29 : decode cX8_when 29 = .ok (.invokestatic 342, 3) := dk_184 1 86 (dk_at dksX8_when_1 5 rfl rfl)
theorem dX8_when_32 : decode cX8_when 32 = .ok (.ifCond .ne 7, 3) := dk_154 0 7 (dk_at dksX8_when_1 8 rfl rfl)
theorem dX8_when_35 : decode cX8_when 35 = .ok (.iconst 1, 1) := dk_4 (dk_at dksX8_when_1 11 rfl rfl)
theorem dX8_when_36 : decode cX8_when 36 = .ok (.goto 4, 3) := dk_167 0 4 (dk_at dksX8_when_1 12 rfl rfl)
theorem dX8_when_39 : decode cX8_when 39 = .ok (.iconst 0, 1) := dk_3 (dk_at dksX8_when_1 15 rfl rfl)
theorem dX8_when_40 : decode cX8_when 40 = .ok (.iconst 2, 1) := dk_5 (dk_at dksX8_when_1 16 rfl rfl)
theorem dX8_when_41 : decode cX8_when 41 = .ok (.iconst 1, 1) := dk_4 (dk_at dksX8_when_1 17 rfl rfl)
theorem dX8_when_42 : decode cX8_when 42 = .ok (.invokevirtual 189, 3) := dk_182 0 189 (dk_at dksX8_when_1 18 rfl rfl)
theorem dX8_when_45 : decode cX8_when 45 = .ok (.ifCond .eq 5, 3) := dk_153 0 5 (dk_at dksX8_when_1 21 rfl rfl)
theorem dX8_when_48 : decode cX8_when 48 = .ok (.iconst 0, 1) := dk_3 (dk_at dksX8_when_2 0 rfl rfl)
theorem dX8_when_49 : decode cX8_when 49 = .ok (.ireturn, 1) := dk_172 (dk_at dksX8_when_2 1 rfl rfl)
theorem dX8_when_50 : decode cX8_when 50 = .ok (.aload_n 0, 1) := dk_42 (dk_at dksX8_when_2 2 rfl rfl)
theorem dX8_when_51 : decode cX8_when 51 = .ok (.getfield 73, 3) := dk_180 0 73 (dk_at dksX8_when_2 3 rfl rfl)
theorem dX8_when_54 : decode cX8_when 54 = .ok (.aload_n 0, 1) := dk_42 (dk_at dksX8_when_2 6 rfl rfl)
theorem dX8_when_55 : decode cX8_when 55 = .ok (.getfield 76, 3) := dk_180 0 76 (dk_at dksX8_when_2 7 rfl rfl)
theorem dX8_when_58 : decode cX8_when 58 = .ok (.invokestatic 319, 3) := dk_184 1 63 (dk_at dksX8_when_2 10 rfl rfl)
theorem dX8_when_61 : decode cX8_when 61 = .ok (.iconst 0, 1) := dk_3 (dk_at dksX8_when_2 13 rfl rfl)
theorem dX8_when_62 : decode cX8_when 62 = .ok (.istore_n 3, 1) := dk_62 (dk_at dksX8_when_2 14 rfl rfl)
theorem dX8_when_63 : decode cX8_when 63 = .ok (.iload_n 3, 1) := dk_29 (dk_at dksX8_when_2 15 rfl rfl)
theorem dX8_when_64 : decode cX8_when 64 = .ok (.sipush 200, 3) := dk_17 0 200 (dk_at dksX8_when_2 16 rfl rfl)
theorem dX8_when_67 : decode cX8_when 67 = .ok (.if_icmp .gt 32, 3) := dk_163 0 32 (dk_at dksX8_when_2 19 rfl rfl)
theorem dX8_when_70 : decode cX8_when 70 = .ok (.aload_n 0, 1) := dk_42 (dk_at dksX8_when_2 22 rfl rfl)
theorem dX8_when_71 : decode cX8_when 71 = .ok (.aload_n 0, 1) := dk_42 (dk_at dksX8_when_2 23 rfl rfl)
theorem dX8_when_72 : decode cX8_when 72 = .ok (.getfield 76, 3) := dk_180 0 76 (dk_at dksX8_when_3 0 rfl rfl)
theorem dX8_when_75 : decode cX8_when 75 = .ok (.iload_n 1, 1) := dk_27 (dk_at dksX8_when_3 3 rfl rfl)
theorem dX8_when_76 : decode cX8_when 76 = .ok (.invokevirtual 326, 3) := dk_182 1 70 (dk_at dksX8_when_3 4 rfl rfl)
theorem dX8_when_79 : decode cX8_when 79 = .ok (.iload_n 2, 1) := dk_28 (dk_at dksX8_when_3 7 rfl rfl)
theorem dX8_when_80 : decode cX8_when 80 = .ok (.if_icmp .ne 5, 3) := dk_160 0 5 (dk_at dksX8_when_3 8 rfl rfl)
theorem dX8_when_83 : decode cX8_when 83 = .ok (.iload_n 3, 1) := dk_29 (dk_at dksX8_when_3 11 rfl rfl)
theorem dX8_when_84 : decode cX8_when 84 = .ok (.ireturn, 1) := dk_172 (dk_at dksX8_when_3 12 rfl rfl)
theorem dX8_when_85 : decode cX8_when 85 = .ok (.aload_n 0, 1) := dk_42 (dk_at dksX8_when_3 13 rfl rfl)
theorem dX8_when_86 : decode cX8_when 86 = .ok (.aload_n 0, 1) := dk_42 (dk_at dksX8_when_3 14 rfl rfl)
theorem dX8_when_87 : decode cX8_when 87 = .ok (.getfield 76, 3) := dk_180 0 76 (dk_at dksX8_when_3 15 rfl rfl)
theorem dX8_when_90 : decode cX8_when 90 = .ok (.invokevirtual 302, 3) := dk_182 1 46 (dk_at dksX8_when_3 18 rfl rfl)
theorem dX8_when_93 : decode cX8_when 93 = .ok (.iinc 3 1, 3) := dk_132 3 1 (dk_at dksX8_when_3 21 rfl rfl)
theorem dX8_when_96 : decode cX8_when 96 = .ok (.goto (-33), 3) := dk_167 255 223 (dk_at dksX8_when_4 0 rfl rfl)
theorem dX8_when_99 : decode cX8_when 99 = .ok (.iconst (-1), 1) := dk_2 (dk_at dksX8_when_4 3 rfl rfl)
theorem dX8_when_100 : decode cX8_when 100 = .ok (.ireturn, 1) := dk_172 (dk_at dksX8_when_4 4 rfl rfl)
abbrev cX8_muffle : ByteArray := prog_30_method_78_code
def yX8_muffle : MethodName := ⟨RX8, "muffle", "(I)I"⟩
def dkwX8_muffle_3 : List UInt8 := [2, 172]
abbrev dktX8_muffle_3 : List UInt8 := dkwX8_muffle_3 ++ []
def dkwX8_muffle_2 : List UInt8 := [159, 0, 24, 42, 42, 180, 0, 73, 27, 28, 182, 1, 26, 154, 0, 5, 28, 172, 132, 2, 1, 167, 255, 219]
abbrev dktX8_muffle_2 : List UInt8 := dkwX8_muffle_2 ++ dktX8_muffle_3
def dkwX8_muffle_1 : List UInt8 := [153, 0, 5, 3, 172, 3, 61, 28, 16, 9, 163, 0, 37, 42, 180, 0, 73, 16, 80, 27, 96, 46, 2]
abbrev dktX8_muffle_1 : List UInt8 := dkwX8_muffle_1 ++ dktX8_muffle_2
def dkwX8_muffle_0 : List UInt8 := [42, 3, 181, 0, 106, 42, 42, 27, 182, 1, 89, 154, 0, 7, 4, 167, 0, 4, 3, 4, 3, 182, 0, 189]
abbrev dktX8_muffle_0 : List UInt8 := dkwX8_muffle_0 ++ dktX8_muffle_1
theorem dksX8_muffle_0 : cX8_muffle.data.toList.drop 0 = dktX8_muffle_0 := by decide +kernel
theorem dksX8_muffle_1 : cX8_muffle.data.toList.drop 24 = dktX8_muffle_1 := dk_seg dksX8_muffle_0 24 rfl rfl
theorem dksX8_muffle_2 : cX8_muffle.data.toList.drop 47 = dktX8_muffle_2 := dk_seg dksX8_muffle_1 23 rfl rfl
theorem dksX8_muffle_3 : cX8_muffle.data.toList.drop 71 = dktX8_muffle_3 := dk_seg dksX8_muffle_2 24 rfl rfl
theorem dX8_muffle_0 : decode cX8_muffle 0 = .ok (.aload_n 0, 1) := dk_42 (dk_at dksX8_muffle_0 0 rfl rfl)
theorem dX8_muffle_1 : decode cX8_muffle 1 = .ok (.iconst 0, 1) := dk_3 (dk_at dksX8_muffle_0 1 rfl rfl)
theorem dX8_muffle_2 : decode cX8_muffle 2 = .ok (.putfield 106, 3) := dk_181 0 106 (dk_at dksX8_muffle_0 2 rfl rfl)
theorem dX8_muffle_5 : decode cX8_muffle 5 = .ok (.aload_n 0, 1) := dk_42 (dk_at dksX8_muffle_0 5 rfl rfl)
theorem dX8_muffle_6 : decode cX8_muffle 6 = .ok (.aload_n 0, 1) := dk_42 (dk_at dksX8_muffle_0 6 rfl rfl)
theorem dX8_muffle_7 : decode cX8_muffle 7 = .ok (.iload_n 1, 1) := dk_27 (dk_at dksX8_muffle_0 7 rfl rfl)
theorem dX8_muffle_8 : decode cX8_muffle 8 = .ok (.invokevirtual 345, 3) := dk_182 1 89 (dk_at dksX8_muffle_0 8 rfl rfl)
theorem dX8_muffle_11 : decode cX8_muffle 11 = .ok (.ifCond .ne 7, 3) := dk_154 0 7 (dk_at dksX8_muffle_0 11 rfl rfl)
theorem dX8_muffle_14 : decode cX8_muffle 14 = .ok (.iconst 1, 1) := dk_4 (dk_at dksX8_muffle_0 14 rfl rfl)
theorem dX8_muffle_15 : decode cX8_muffle 15 = .ok (.goto 4, 3) := dk_167 0 4 (dk_at dksX8_muffle_0 15 rfl rfl)
theorem dX8_muffle_18 : decode cX8_muffle 18 = .ok (.iconst 0, 1) := dk_3 (dk_at dksX8_muffle_0 18 rfl rfl)
theorem dX8_muffle_19 : decode cX8_muffle 19 = .ok (.iconst 1, 1) := dk_4 (dk_at dksX8_muffle_0 19 rfl rfl)
theorem dX8_muffle_20 : decode cX8_muffle 20 = .ok (.iconst 0, 1) := dk_3 (dk_at dksX8_muffle_0 20 rfl rfl)
theorem dX8_muffle_21 : decode cX8_muffle 21 = .ok (.invokevirtual 189, 3) := dk_182 0 189 (dk_at dksX8_muffle_0 21 rfl rfl)
theorem dX8_muffle_24 : decode cX8_muffle 24 = .ok (.ifCond .eq 5, 3) := dk_153 0 5 (dk_at dksX8_muffle_1 0 rfl rfl)
theorem dX8_muffle_27 : decode cX8_muffle 27 = .ok (.iconst 0, 1) := dk_3 (dk_at dksX8_muffle_1 3 rfl rfl)
theorem dX8_muffle_28 : decode cX8_muffle 28 = .ok (.ireturn, 1) := dk_172 (dk_at dksX8_muffle_1 4 rfl rfl)
theorem dX8_muffle_29 : decode cX8_muffle 29 = .ok (.iconst 0, 1) := dk_3 (dk_at dksX8_muffle_1 5 rfl rfl)
theorem dX8_muffle_30 : decode cX8_muffle 30 = .ok (.istore_n 2, 1) := dk_61 (dk_at dksX8_muffle_1 6 rfl rfl)
theorem dX8_muffle_31 : decode cX8_muffle 31 = .ok (.iload_n 2, 1) := dk_28 (dk_at dksX8_muffle_1 7 rfl rfl)
theorem dX8_muffle_32 : decode cX8_muffle 32 = .ok (.bipush 9, 2) := dk_16 9 (dk_at dksX8_muffle_1 8 rfl rfl)
theorem dX8_muffle_34 : decode cX8_muffle 34 = .ok (.if_icmp .gt 37, 3) := dk_163 0 37 (dk_at dksX8_muffle_1 10 rfl rfl)
theorem dX8_muffle_37 : decode cX8_muffle 37 = .ok (.aload_n 0, 1) := dk_42 (dk_at dksX8_muffle_1 13 rfl rfl)
theorem dX8_muffle_38 : decode cX8_muffle 38 = .ok (.getfield 73, 3) := dk_180 0 73 (dk_at dksX8_muffle_1 14 rfl rfl)
theorem dX8_muffle_41 : decode cX8_muffle 41 = .ok (.bipush 80, 2) := dk_16 80 (dk_at dksX8_muffle_1 17 rfl rfl)
theorem dX8_muffle_43 : decode cX8_muffle 43 = .ok (.iload_n 1, 1) := dk_27 (dk_at dksX8_muffle_1 19 rfl rfl)
theorem dX8_muffle_44 : decode cX8_muffle 44 = .ok (.iadd, 1) := dk_96 (dk_at dksX8_muffle_1 20 rfl rfl)
theorem dX8_muffle_45 : decode cX8_muffle 45 = .ok (.iaload, 1) := dk_46 (dk_at dksX8_muffle_1 21 rfl rfl)
theorem dX8_muffle_46 : decode cX8_muffle 46 = .ok (.iconst (-1), 1) := dk_2 (dk_at dksX8_muffle_1 22 rfl rfl)
theorem dX8_muffle_47 : decode cX8_muffle 47 = .ok (.if_icmp .eq 24, 3) := dk_159 0 24 (dk_at dksX8_muffle_2 0 rfl rfl)
theorem dX8_muffle_50 : decode cX8_muffle 50 = .ok (.aload_n 0, 1) := dk_42 (dk_at dksX8_muffle_2 3 rfl rfl)
theorem dX8_muffle_51 : decode cX8_muffle 51 = .ok (.aload_n 0, 1) := dk_42 (dk_at dksX8_muffle_2 4 rfl rfl)
theorem dX8_muffle_52 : decode cX8_muffle 52 = .ok (.getfield 73, 3) := dk_180 0 73 (dk_at dksX8_muffle_2 5 rfl rfl)
theorem dX8_muffle_55 : decode cX8_muffle 55 = .ok (.iload_n 1, 1) := dk_27 (dk_at dksX8_muffle_2 8 rfl rfl)
theorem dX8_muffle_56 : decode cX8_muffle 56 = .ok (.iload_n 2, 1) := dk_28 (dk_at dksX8_muffle_2 9 rfl rfl)
theorem dX8_muffle_57 : decode cX8_muffle 57 = .ok (.invokevirtual 282, 3) := dk_182 1 26 (dk_at dksX8_muffle_2 10 rfl rfl)
theorem dX8_muffle_60 : decode cX8_muffle 60 = .ok (.ifCond .ne 5, 3) := dk_154 0 5 (dk_at dksX8_muffle_2 13 rfl rfl)
theorem dX8_muffle_63 : decode cX8_muffle 63 = .ok (.iload_n 2, 1) := dk_28 (dk_at dksX8_muffle_2 16 rfl rfl)
theorem dX8_muffle_64 : decode cX8_muffle 64 = .ok (.ireturn, 1) := dk_172 (dk_at dksX8_muffle_2 17 rfl rfl)
theorem dX8_muffle_65 : decode cX8_muffle 65 = .ok (.iinc 2 1, 3) := dk_132 2 1 (dk_at dksX8_muffle_2 18 rfl rfl)
theorem dX8_muffle_68 : decode cX8_muffle 68 = .ok (.goto (-37), 3) := dk_167 255 219 (dk_at dksX8_muffle_2 21 rfl rfl)
theorem dX8_muffle_71 : decode cX8_muffle 71 = .ok (.iconst (-1), 1) := dk_2 (dk_at dksX8_muffle_3 0 rfl rfl)
theorem dX8_muffle_72 : decode cX8_muffle 72 = .ok (.ireturn, 1) := dk_172 (dk_at dksX8_muffle_3 1 rfl rfl)
abbrev cX8_places : ByteArray := prog_30_method_81_code
def yX8_places : MethodName := ⟨RX8, "places", "()I"⟩
def dkwX8_places_0 : List UInt8 := [42, 3, 181, 0, 106, 42, 182, 1, 98, 42, 180, 1, 92, 172]
abbrev dktX8_places_0 : List UInt8 := dkwX8_places_0 ++ []
theorem dksX8_places_0 : cX8_places.data.toList.drop 0 = dktX8_places_0 := by decide +kernel
theorem dX8_places_0 : decode cX8_places 0 = .ok (.aload_n 0, 1) := dk_42 (dk_at dksX8_places_0 0 rfl rfl)
theorem dX8_places_1 : decode cX8_places 1 = .ok (.iconst 0, 1) := dk_3 (dk_at dksX8_places_0 1 rfl rfl)
theorem dX8_places_2 : decode cX8_places 2 = .ok (.putfield 106, 3) := dk_181 0 106 (dk_at dksX8_places_0 2 rfl rfl)
theorem dX8_places_5 : decode cX8_places 5 = .ok (.aload_n 0, 1) := dk_42 (dk_at dksX8_places_0 5 rfl rfl)
theorem dX8_places_6 : decode cX8_places 6 = .ok (.invokevirtual 354, 3) := dk_182 1 98 (dk_at dksX8_places_0 6 rfl rfl)
theorem dX8_places_9 : decode cX8_places 9 = .ok (.aload_n 0, 1) := dk_42 (dk_at dksX8_places_0 9 rfl rfl)
theorem dX8_places_10 : decode cX8_places 10 = .ok (.getfield 348, 3) := dk_180 1 92 (dk_at dksX8_places_0 10 rfl rfl)
theorem dX8_places_13 : decode cX8_places 13 = .ok (.ireturn, 1) := dk_172 (dk_at dksX8_places_0 13 rfl rfl)
abbrev cX8_placesAll : ByteArray := prog_30_method_80_code
def yX8_placesAll : MethodName := ⟨RX8, "placesAll", "()V"⟩
def dkwX8_placesAll_1 : List UInt8 := [180, 0, 88, 27, 2, 79, 132, 1, 1, 167, 255, 230, 42, 3, 3, 182, 1, 95, 177]
abbrev dktX8_placesAll_1 : List UInt8 := dkwX8_placesAll_1 ++ []
def dkwX8_placesAll_0 : List UInt8 := [42, 2, 181, 1, 92, 3, 60, 27, 16, 6, 162, 0, 26, 42, 180, 0, 76, 16, 80, 27, 96, 2, 79, 42]
abbrev dktX8_placesAll_0 : List UInt8 := dkwX8_placesAll_0 ++ dktX8_placesAll_1
theorem dksX8_placesAll_0 : cX8_placesAll.data.toList.drop 0 = dktX8_placesAll_0 := by decide +kernel
theorem dksX8_placesAll_1 : cX8_placesAll.data.toList.drop 24 = dktX8_placesAll_1 := dk_seg dksX8_placesAll_0 24 rfl rfl
theorem dX8_placesAll_0 : decode cX8_placesAll 0 = .ok (.aload_n 0, 1) := dk_42 (dk_at dksX8_placesAll_0 0 rfl rfl)
theorem dX8_placesAll_1 : decode cX8_placesAll 1 = .ok (.iconst (-1), 1) := dk_2 (dk_at dksX8_placesAll_0 1 rfl rfl)
theorem dX8_placesAll_2 : decode cX8_placesAll 2 = .ok (.putfield 348, 3) := dk_181 1 92 (dk_at dksX8_placesAll_0 2 rfl rfl)
theorem dX8_placesAll_5 : decode cX8_placesAll 5 = .ok (.iconst 0, 1) := dk_3 (dk_at dksX8_placesAll_0 5 rfl rfl)
theorem dX8_placesAll_6 : decode cX8_placesAll 6 = .ok (.istore_n 1, 1) := dk_60 (dk_at dksX8_placesAll_0 6 rfl rfl)
theorem dX8_placesAll_7 : decode cX8_placesAll 7 = .ok (.iload_n 1, 1) := dk_27 (dk_at dksX8_placesAll_0 7 rfl rfl)
theorem dX8_placesAll_8 : decode cX8_placesAll 8 = .ok (.bipush 6, 2) := dk_16 6 (dk_at dksX8_placesAll_0 8 rfl rfl)
theorem dX8_placesAll_10 : decode cX8_placesAll 10 = .ok (.if_icmp .ge 26, 3) := dk_162 0 26 (dk_at dksX8_placesAll_0 10 rfl rfl)
theorem dX8_placesAll_13 : decode cX8_placesAll 13 = .ok (.aload_n 0, 1) := dk_42 (dk_at dksX8_placesAll_0 13 rfl rfl)
theorem dX8_placesAll_14 : decode cX8_placesAll 14 = .ok (.getfield 76, 3) := dk_180 0 76 (dk_at dksX8_placesAll_0 14 rfl rfl)
theorem dX8_placesAll_17 : decode cX8_placesAll 17 = .ok (.bipush 80, 2) := dk_16 80 (dk_at dksX8_placesAll_0 17 rfl rfl)
theorem dX8_placesAll_19 : decode cX8_placesAll 19 = .ok (.iload_n 1, 1) := dk_27 (dk_at dksX8_placesAll_0 19 rfl rfl)
theorem dX8_placesAll_20 : decode cX8_placesAll 20 = .ok (.iadd, 1) := dk_96 (dk_at dksX8_placesAll_0 20 rfl rfl)
theorem dX8_placesAll_21 : decode cX8_placesAll 21 = .ok (.iconst (-1), 1) := dk_2 (dk_at dksX8_placesAll_0 21 rfl rfl)
theorem dX8_placesAll_22 : decode cX8_placesAll 22 = .ok (.iastore, 1) := dk_79 (dk_at dksX8_placesAll_0 22 rfl rfl)
theorem dX8_placesAll_23 : decode cX8_placesAll 23 = .ok (.aload_n 0, 1) := dk_42 (dk_at dksX8_placesAll_0 23 rfl rfl)
theorem dX8_placesAll_24 : decode cX8_placesAll 24 = .ok (.getfield 88, 3) := dk_180 0 88 (dk_at dksX8_placesAll_1 0 rfl rfl)
theorem dX8_placesAll_27 : decode cX8_placesAll 27 = .ok (.iload_n 1, 1) := dk_27 (dk_at dksX8_placesAll_1 3 rfl rfl)
theorem dX8_placesAll_28 : decode cX8_placesAll 28 = .ok (.iconst (-1), 1) := dk_2 (dk_at dksX8_placesAll_1 4 rfl rfl)
theorem dX8_placesAll_29 : decode cX8_placesAll 29 = .ok (.iastore, 1) := dk_79 (dk_at dksX8_placesAll_1 5 rfl rfl)
theorem dX8_placesAll_30 : decode cX8_placesAll 30 = .ok (.iinc 1 1, 3) := dk_132 1 1 (dk_at dksX8_placesAll_1 6 rfl rfl)
theorem dX8_placesAll_33 : decode cX8_placesAll 33 = .ok (.goto (-26), 3) := dk_167 255 230 (dk_at dksX8_placesAll_1 9 rfl rfl)
theorem dX8_placesAll_36 : decode cX8_placesAll 36 = .ok (.aload_n 0, 1) := dk_42 (dk_at dksX8_placesAll_1 12 rfl rfl)
theorem dX8_placesAll_37 : decode cX8_placesAll 37 = .ok (.iconst 0, 1) := dk_3 (dk_at dksX8_placesAll_1 13 rfl rfl)
theorem dX8_placesAll_38 : decode cX8_placesAll 38 = .ok (.iconst 0, 1) := dk_3 (dk_at dksX8_placesAll_1 14 rfl rfl)
theorem dX8_placesAll_39 : decode cX8_placesAll 39 = .ok (.invokevirtual 351, 3) := dk_182 1 95 (dk_at dksX8_placesAll_1 15 rfl rfl)
theorem dX8_placesAll_42 : decode cX8_placesAll 42 = .ok (.return_, 1) := dk_177 (dk_at dksX8_placesAll_1 18 rfl rfl)
abbrev cX8_putsFrom : ByteArray := prog_30_method_79_code
def yX8_putsFrom : MethodName := ⟨RX8, "putsFrom", "(II)V"⟩
def dkwX8_putsFrom_7 : List UInt8 := [96, 182, 1, 95, 132, 3, 1, 167, 255, 139, 42, 180, 0, 76, 16, 80, 27, 96, 2, 79, 177]
abbrev dktX8_putsFrom_7 : List UInt8 := dkwX8_putsFrom_7 ++ []
def dkwX8_putsFrom_6 : List UInt8 := [96, 28, 42, 180, 0, 35, 29, 46, 42, 180, 0, 49, 27, 50, 3, 46, 160, 0, 7, 4, 167, 0, 4, 3]
abbrev dktX8_putsFrom_6 : List UInt8 := dkwX8_putsFrom_6 ++ dktX8_putsFrom_7
def dkwX8_putsFrom_5 : List UInt8 := [154, 0, 7, 4, 167, 0, 4, 3, 54, 4, 132, 5, 1, 167, 255, 207, 21, 4, 153, 0, 34, 42, 27, 4]
abbrev dktX8_putsFrom_5 : List UInt8 := dkwX8_putsFrom_5 ++ dktX8_putsFrom_6
def dkwX8_putsFrom_4 : List UInt8 := [180, 0, 76, 16, 80, 21, 5, 96, 46, 29, 159, 0, 21, 42, 42, 180, 0, 76, 27, 21, 5, 182, 1, 34]
abbrev dktX8_putsFrom_4 : List UInt8 := dkwX8_putsFrom_4 ++ dktX8_putsFrom_5
def dkwX8_putsFrom_3 : List UInt8 := [180, 0, 76, 16, 80, 27, 96, 29, 79, 3, 54, 5, 21, 5, 27, 162, 0, 49, 21, 4, 153, 0, 44, 42]
abbrev dktX8_putsFrom_3 : List UInt8 := dkwX8_putsFrom_3 ++ dktX8_putsFrom_4
def dkwX8_putsFrom_2 : List UInt8 := [132, 3, 1, 167, 255, 233, 177, 3, 62, 29, 42, 180, 0, 23, 3, 46, 162, 0, 113, 4, 54, 4, 42]
abbrev dktX8_putsFrom_2 : List UInt8 := dkwX8_putsFrom_2 ++ dktX8_putsFrom_3
def dkwX8_putsFrom_1 : List UInt8 := [3, 62, 29, 27, 162, 0, 24, 42, 180, 0, 88, 29, 42, 180, 0, 76, 16, 80, 29, 96, 46, 79]
abbrev dktX8_putsFrom_1 : List UInt8 := dkwX8_putsFrom_1 ++ dktX8_putsFrom_2
def dkwX8_putsFrom_0 : List UInt8 := [27, 42, 180, 0, 23, 5, 46, 160, 0, 46, 28, 42, 180, 1, 92, 163, 0, 4, 177, 42, 28, 181, 1, 92]
abbrev dktX8_putsFrom_0 : List UInt8 := dkwX8_putsFrom_0 ++ dktX8_putsFrom_1
theorem dksX8_putsFrom_0 : cX8_putsFrom.data.toList.drop 0 = dktX8_putsFrom_0 := by decide +kernel
theorem dksX8_putsFrom_1 : cX8_putsFrom.data.toList.drop 24 = dktX8_putsFrom_1 := dk_seg dksX8_putsFrom_0 24 rfl rfl
theorem dksX8_putsFrom_2 : cX8_putsFrom.data.toList.drop 46 = dktX8_putsFrom_2 := dk_seg dksX8_putsFrom_1 22 rfl rfl
theorem dksX8_putsFrom_3 : cX8_putsFrom.data.toList.drop 69 = dktX8_putsFrom_3 := dk_seg dksX8_putsFrom_2 23 rfl rfl
theorem dksX8_putsFrom_4 : cX8_putsFrom.data.toList.drop 93 = dktX8_putsFrom_4 := dk_seg dksX8_putsFrom_3 24 rfl rfl
theorem dksX8_putsFrom_5 : cX8_putsFrom.data.toList.drop 117 = dktX8_putsFrom_5 := dk_seg dksX8_putsFrom_4 24 rfl rfl
theorem dksX8_putsFrom_6 : cX8_putsFrom.data.toList.drop 141 = dktX8_putsFrom_6 := dk_seg dksX8_putsFrom_5 24 rfl rfl
theorem dksX8_putsFrom_7 : cX8_putsFrom.data.toList.drop 165 = dktX8_putsFrom_7 := dk_seg dksX8_putsFrom_6 24 rfl rfl
theorem dX8_putsFrom_0 : decode cX8_putsFrom 0 = .ok (.iload_n 1, 1) := dk_27 (dk_at dksX8_putsFrom_0 0 rfl rfl)
theorem dX8_putsFrom_1 : decode cX8_putsFrom 1 = .ok (.aload_n 0, 1) := dk_42 (dk_at dksX8_putsFrom_0 1 rfl rfl)
theorem dX8_putsFrom_2 : decode cX8_putsFrom 2 = .ok (.getfield 23, 3) := dk_180 0 23 (dk_at dksX8_putsFrom_0 2 rfl rfl)
theorem dX8_putsFrom_5 : decode cX8_putsFrom 5 = .ok (.iconst 2, 1) := dk_5 (dk_at dksX8_putsFrom_0 5 rfl rfl)
theorem dX8_putsFrom_6 : decode cX8_putsFrom 6 = .ok (.iaload, 1) := dk_46 (dk_at dksX8_putsFrom_0 6 rfl rfl)
theorem dX8_putsFrom_7 : decode cX8_putsFrom 7 = .ok (.if_icmp .ne 46, 3) := dk_160 0 46 (dk_at dksX8_putsFrom_0 7 rfl rfl)
theorem dX8_putsFrom_10 : decode cX8_putsFrom 10 = .ok (.iload_n 2, 1) := dk_28 (dk_at dksX8_putsFrom_0 10 rfl rfl)
theorem dX8_putsFrom_11 : decode cX8_putsFrom 11 = .ok (.aload_n 0, 1) := dk_42 (dk_at dksX8_putsFrom_0 11 rfl rfl)
theorem dX8_putsFrom_12 : decode cX8_putsFrom 12 = .ok (.getfield 348, 3) := dk_180 1 92 (dk_at dksX8_putsFrom_0 12 rfl rfl)
theorem dX8_putsFrom_15 : decode cX8_putsFrom 15 = .ok (.if_icmp .gt 4, 3) := dk_163 0 4 (dk_at dksX8_putsFrom_0 15 rfl rfl)
theorem dX8_putsFrom_18 : decode cX8_putsFrom 18 = .ok (.return_, 1) := dk_177 (dk_at dksX8_putsFrom_0 18 rfl rfl)
theorem dX8_putsFrom_19 : decode cX8_putsFrom 19 = .ok (.aload_n 0, 1) := dk_42 (dk_at dksX8_putsFrom_0 19 rfl rfl)
theorem dX8_putsFrom_20 : decode cX8_putsFrom 20 = .ok (.iload_n 2, 1) := dk_28 (dk_at dksX8_putsFrom_0 20 rfl rfl)
theorem dX8_putsFrom_21 : decode cX8_putsFrom 21 = .ok (.putfield 348, 3) := dk_181 1 92 (dk_at dksX8_putsFrom_0 21 rfl rfl)
theorem dX8_putsFrom_24 : decode cX8_putsFrom 24 = .ok (.iconst 0, 1) := dk_3 (dk_at dksX8_putsFrom_1 0 rfl rfl)
theorem dX8_putsFrom_25 : decode cX8_putsFrom 25 = .ok (.istore_n 3, 1) := dk_62 (dk_at dksX8_putsFrom_1 1 rfl rfl)
theorem dX8_putsFrom_26 : decode cX8_putsFrom 26 = .ok (.iload_n 3, 1) := dk_29 (dk_at dksX8_putsFrom_1 2 rfl rfl)
theorem dX8_putsFrom_27 : decode cX8_putsFrom 27 = .ok (.iload_n 1, 1) := dk_27 (dk_at dksX8_putsFrom_1 3 rfl rfl)
theorem dX8_putsFrom_28 : decode cX8_putsFrom 28 = .ok (.if_icmp .ge 24, 3) := dk_162 0 24 (dk_at dksX8_putsFrom_1 4 rfl rfl)
theorem dX8_putsFrom_31 : decode cX8_putsFrom 31 = .ok (.aload_n 0, 1) := dk_42 (dk_at dksX8_putsFrom_1 7 rfl rfl)
theorem dX8_putsFrom_32 : decode cX8_putsFrom 32 = .ok (.getfield 88, 3) := dk_180 0 88 (dk_at dksX8_putsFrom_1 8 rfl rfl)
theorem dX8_putsFrom_35 : decode cX8_putsFrom 35 = .ok (.iload_n 3, 1) := dk_29 (dk_at dksX8_putsFrom_1 11 rfl rfl)
theorem dX8_putsFrom_36 : decode cX8_putsFrom 36 = .ok (.aload_n 0, 1) := dk_42 (dk_at dksX8_putsFrom_1 12 rfl rfl)
theorem dX8_putsFrom_37 : decode cX8_putsFrom 37 = .ok (.getfield 76, 3) := dk_180 0 76 (dk_at dksX8_putsFrom_1 13 rfl rfl)
theorem dX8_putsFrom_40 : decode cX8_putsFrom 40 = .ok (.bipush 80, 2) := dk_16 80 (dk_at dksX8_putsFrom_1 16 rfl rfl)
theorem dX8_putsFrom_42 : decode cX8_putsFrom 42 = .ok (.iload_n 3, 1) := dk_29 (dk_at dksX8_putsFrom_1 18 rfl rfl)
theorem dX8_putsFrom_43 : decode cX8_putsFrom 43 = .ok (.iadd, 1) := dk_96 (dk_at dksX8_putsFrom_1 19 rfl rfl)
theorem dX8_putsFrom_44 : decode cX8_putsFrom 44 = .ok (.iaload, 1) := dk_46 (dk_at dksX8_putsFrom_1 20 rfl rfl)
theorem dX8_putsFrom_45 : decode cX8_putsFrom 45 = .ok (.iastore, 1) := dk_79 (dk_at dksX8_putsFrom_1 21 rfl rfl)
theorem dX8_putsFrom_46 : decode cX8_putsFrom 46 = .ok (.iinc 3 1, 3) := dk_132 3 1 (dk_at dksX8_putsFrom_2 0 rfl rfl)
theorem dX8_putsFrom_49 : decode cX8_putsFrom 49 = .ok (.goto (-23), 3) := dk_167 255 233 (dk_at dksX8_putsFrom_2 3 rfl rfl)
theorem dX8_putsFrom_52 : decode cX8_putsFrom 52 = .ok (.return_, 1) := dk_177 (dk_at dksX8_putsFrom_2 6 rfl rfl)
theorem dX8_putsFrom_53 : decode cX8_putsFrom 53 = .ok (.iconst 0, 1) := dk_3 (dk_at dksX8_putsFrom_2 7 rfl rfl)
theorem dX8_putsFrom_54 : decode cX8_putsFrom 54 = .ok (.istore_n 3, 1) := dk_62 (dk_at dksX8_putsFrom_2 8 rfl rfl)
theorem dX8_putsFrom_55 : decode cX8_putsFrom 55 = .ok (.iload_n 3, 1) := dk_29 (dk_at dksX8_putsFrom_2 9 rfl rfl)
theorem dX8_putsFrom_56 : decode cX8_putsFrom 56 = .ok (.aload_n 0, 1) := dk_42 (dk_at dksX8_putsFrom_2 10 rfl rfl)
theorem dX8_putsFrom_57 : decode cX8_putsFrom 57 = .ok (.getfield 23, 3) := dk_180 0 23 (dk_at dksX8_putsFrom_2 11 rfl rfl)
theorem dX8_putsFrom_60 : decode cX8_putsFrom 60 = .ok (.iconst 0, 1) := dk_3 (dk_at dksX8_putsFrom_2 14 rfl rfl)
theorem dX8_putsFrom_61 : decode cX8_putsFrom 61 = .ok (.iaload, 1) := dk_46 (dk_at dksX8_putsFrom_2 15 rfl rfl)
theorem dX8_putsFrom_62 : decode cX8_putsFrom 62 = .ok (.if_icmp .ge 113, 3) := dk_162 0 113 (dk_at dksX8_putsFrom_2 16 rfl rfl)
theorem dX8_putsFrom_65 : decode cX8_putsFrom 65 = .ok (.iconst 1, 1) := dk_4 (dk_at dksX8_putsFrom_2 19 rfl rfl)
theorem dX8_putsFrom_66 : decode cX8_putsFrom 66 = .ok (.istore 4, 2) := dk_54 4 (dk_at dksX8_putsFrom_2 20 rfl rfl)
theorem dX8_putsFrom_68 : decode cX8_putsFrom 68 = .ok (.aload_n 0, 1) := dk_42 (dk_at dksX8_putsFrom_2 22 rfl rfl)
theorem dX8_putsFrom_69 : decode cX8_putsFrom 69 = .ok (.getfield 76, 3) := dk_180 0 76 (dk_at dksX8_putsFrom_3 0 rfl rfl)
theorem dX8_putsFrom_72 : decode cX8_putsFrom 72 = .ok (.bipush 80, 2) := dk_16 80 (dk_at dksX8_putsFrom_3 3 rfl rfl)
theorem dX8_putsFrom_74 : decode cX8_putsFrom 74 = .ok (.iload_n 1, 1) := dk_27 (dk_at dksX8_putsFrom_3 5 rfl rfl)
theorem dX8_putsFrom_75 : decode cX8_putsFrom 75 = .ok (.iadd, 1) := dk_96 (dk_at dksX8_putsFrom_3 6 rfl rfl)
theorem dX8_putsFrom_76 : decode cX8_putsFrom 76 = .ok (.iload_n 3, 1) := dk_29 (dk_at dksX8_putsFrom_3 7 rfl rfl)
theorem dX8_putsFrom_77 : decode cX8_putsFrom 77 = .ok (.iastore, 1) := dk_79 (dk_at dksX8_putsFrom_3 8 rfl rfl)
theorem dX8_putsFrom_78 : decode cX8_putsFrom 78 = .ok (.iconst 0, 1) := dk_3 (dk_at dksX8_putsFrom_3 9 rfl rfl)
theorem dX8_putsFrom_79 : decode cX8_putsFrom 79 = .ok (.istore 5, 2) := dk_54 5 (dk_at dksX8_putsFrom_3 10 rfl rfl)
theorem dX8_putsFrom_81 : decode cX8_putsFrom 81 = .ok (.iload 5, 2) := dk_21 5 (dk_at dksX8_putsFrom_3 12 rfl rfl)
theorem dX8_putsFrom_83 : decode cX8_putsFrom 83 = .ok (.iload_n 1, 1) := dk_27 (dk_at dksX8_putsFrom_3 14 rfl rfl)
theorem dX8_putsFrom_84 : decode cX8_putsFrom 84 = .ok (.if_icmp .ge 49, 3) := dk_162 0 49 (dk_at dksX8_putsFrom_3 15 rfl rfl)
theorem dX8_putsFrom_87 : decode cX8_putsFrom 87 = .ok (.iload 4, 2) := dk_21 4 (dk_at dksX8_putsFrom_3 18 rfl rfl)
theorem dX8_putsFrom_89 : decode cX8_putsFrom 89 = .ok (.ifCond .eq 44, 3) := dk_153 0 44 (dk_at dksX8_putsFrom_3 20 rfl rfl)
theorem dX8_putsFrom_92 : decode cX8_putsFrom 92 = .ok (.aload_n 0, 1) := dk_42 (dk_at dksX8_putsFrom_3 23 rfl rfl)
theorem dX8_putsFrom_93 : decode cX8_putsFrom 93 = .ok (.getfield 76, 3) := dk_180 0 76 (dk_at dksX8_putsFrom_4 0 rfl rfl)
theorem dX8_putsFrom_96 : decode cX8_putsFrom 96 = .ok (.bipush 80, 2) := dk_16 80 (dk_at dksX8_putsFrom_4 3 rfl rfl)
theorem dX8_putsFrom_98 : decode cX8_putsFrom 98 = .ok (.iload 5, 2) := dk_21 5 (dk_at dksX8_putsFrom_4 5 rfl rfl)
theorem dX8_putsFrom_100 : decode cX8_putsFrom 100 = .ok (.iadd, 1) := dk_96 (dk_at dksX8_putsFrom_4 7 rfl rfl)
theorem dX8_putsFrom_101 : decode cX8_putsFrom 101 = .ok (.iaload, 1) := dk_46 (dk_at dksX8_putsFrom_4 8 rfl rfl)
theorem dX8_putsFrom_102 : decode cX8_putsFrom 102 = .ok (.iload_n 3, 1) := dk_29 (dk_at dksX8_putsFrom_4 9 rfl rfl)
theorem dX8_putsFrom_103 : decode cX8_putsFrom 103 = .ok (.if_icmp .eq 21, 3) := dk_159 0 21 (dk_at dksX8_putsFrom_4 10 rfl rfl)
theorem dX8_putsFrom_106 : decode cX8_putsFrom 106 = .ok (.aload_n 0, 1) := dk_42 (dk_at dksX8_putsFrom_4 13 rfl rfl)
theorem dX8_putsFrom_107 : decode cX8_putsFrom 107 = .ok (.aload_n 0, 1) := dk_42 (dk_at dksX8_putsFrom_4 14 rfl rfl)
theorem dX8_putsFrom_108 : decode cX8_putsFrom 108 = .ok (.getfield 76, 3) := dk_180 0 76 (dk_at dksX8_putsFrom_4 15 rfl rfl)
theorem dX8_putsFrom_111 : decode cX8_putsFrom 111 = .ok (.iload_n 1, 1) := dk_27 (dk_at dksX8_putsFrom_4 18 rfl rfl)
theorem dX8_putsFrom_112 : decode cX8_putsFrom 112 = .ok (.iload 5, 2) := dk_21 5 (dk_at dksX8_putsFrom_4 19 rfl rfl)
theorem dX8_putsFrom_114 : decode cX8_putsFrom 114 = .ok (.invokevirtual 290, 3) := dk_182 1 34 (dk_at dksX8_putsFrom_4 21 rfl rfl)
theorem dX8_putsFrom_117 : decode cX8_putsFrom 117 = .ok (.ifCond .ne 7, 3) := dk_154 0 7 (dk_at dksX8_putsFrom_5 0 rfl rfl)
theorem dX8_putsFrom_120 : decode cX8_putsFrom 120 = .ok (.iconst 1, 1) := dk_4 (dk_at dksX8_putsFrom_5 3 rfl rfl)
theorem dX8_putsFrom_121 : decode cX8_putsFrom 121 = .ok (.goto 4, 3) := dk_167 0 4 (dk_at dksX8_putsFrom_5 4 rfl rfl)
theorem dX8_putsFrom_124 : decode cX8_putsFrom 124 = .ok (.iconst 0, 1) := dk_3 (dk_at dksX8_putsFrom_5 7 rfl rfl)
theorem dX8_putsFrom_125 : decode cX8_putsFrom 125 = .ok (.istore 4, 2) := dk_54 4 (dk_at dksX8_putsFrom_5 8 rfl rfl)
theorem dX8_putsFrom_127 : decode cX8_putsFrom 127 = .ok (.iinc 5 1, 3) := dk_132 5 1 (dk_at dksX8_putsFrom_5 10 rfl rfl)
theorem dX8_putsFrom_130 : decode cX8_putsFrom 130 = .ok (.goto (-49), 3) := dk_167 255 207 (dk_at dksX8_putsFrom_5 13 rfl rfl)
theorem dX8_putsFrom_133 : decode cX8_putsFrom 133 = .ok (.iload 4, 2) := dk_21 4 (dk_at dksX8_putsFrom_5 16 rfl rfl)
theorem dX8_putsFrom_135 : decode cX8_putsFrom 135 = .ok (.ifCond .eq 34, 3) := dk_153 0 34 (dk_at dksX8_putsFrom_5 18 rfl rfl)
theorem dX8_putsFrom_138 : decode cX8_putsFrom 138 = .ok (.aload_n 0, 1) := dk_42 (dk_at dksX8_putsFrom_5 21 rfl rfl)
theorem dX8_putsFrom_139 : decode cX8_putsFrom 139 = .ok (.iload_n 1, 1) := dk_27 (dk_at dksX8_putsFrom_5 22 rfl rfl)
theorem dX8_putsFrom_140 : decode cX8_putsFrom 140 = .ok (.iconst 1, 1) := dk_4 (dk_at dksX8_putsFrom_5 23 rfl rfl)
theorem dX8_putsFrom_141 : decode cX8_putsFrom 141 = .ok (.iadd, 1) := dk_96 (dk_at dksX8_putsFrom_6 0 rfl rfl)
theorem dX8_putsFrom_142 : decode cX8_putsFrom 142 = .ok (.iload_n 2, 1) := dk_28 (dk_at dksX8_putsFrom_6 1 rfl rfl)
theorem dX8_putsFrom_143 : decode cX8_putsFrom 143 = .ok (.aload_n 0, 1) := dk_42 (dk_at dksX8_putsFrom_6 2 rfl rfl)
theorem dX8_putsFrom_144 : decode cX8_putsFrom 144 = .ok (.getfield 35, 3) := dk_180 0 35 (dk_at dksX8_putsFrom_6 3 rfl rfl)
theorem dX8_putsFrom_147 : decode cX8_putsFrom 147 = .ok (.iload_n 3, 1) := dk_29 (dk_at dksX8_putsFrom_6 6 rfl rfl)
theorem dX8_putsFrom_148 : decode cX8_putsFrom 148 = .ok (.iaload, 1) := dk_46 (dk_at dksX8_putsFrom_6 7 rfl rfl)
theorem dX8_putsFrom_149 : decode cX8_putsFrom 149 = .ok (.aload_n 0, 1) := dk_42 (dk_at dksX8_putsFrom_6 8 rfl rfl)
theorem dX8_putsFrom_150 : decode cX8_putsFrom 150 = .ok (.getfield 49, 3) := dk_180 0 49 (dk_at dksX8_putsFrom_6 9 rfl rfl)
theorem dX8_putsFrom_153 : decode cX8_putsFrom 153 = .ok (.iload_n 1, 1) := dk_27 (dk_at dksX8_putsFrom_6 12 rfl rfl)
theorem dX8_putsFrom_154 : decode cX8_putsFrom 154 = .ok (.aaload, 1) := dk_50 (dk_at dksX8_putsFrom_6 13 rfl rfl)
theorem dX8_putsFrom_155 : decode cX8_putsFrom 155 = .ok (.iconst 0, 1) := dk_3 (dk_at dksX8_putsFrom_6 14 rfl rfl)
theorem dX8_putsFrom_156 : decode cX8_putsFrom 156 = .ok (.iaload, 1) := dk_46 (dk_at dksX8_putsFrom_6 15 rfl rfl)
theorem dX8_putsFrom_157 : decode cX8_putsFrom 157 = .ok (.if_icmp .ne 7, 3) := dk_160 0 7 (dk_at dksX8_putsFrom_6 16 rfl rfl)
theorem dX8_putsFrom_160 : decode cX8_putsFrom 160 = .ok (.iconst 1, 1) := dk_4 (dk_at dksX8_putsFrom_6 19 rfl rfl)
theorem dX8_putsFrom_161 : decode cX8_putsFrom 161 = .ok (.goto 4, 3) := dk_167 0 4 (dk_at dksX8_putsFrom_6 20 rfl rfl)
theorem dX8_putsFrom_164 : decode cX8_putsFrom 164 = .ok (.iconst 0, 1) := dk_3 (dk_at dksX8_putsFrom_6 23 rfl rfl)
theorem dX8_putsFrom_165 : decode cX8_putsFrom 165 = .ok (.iadd, 1) := dk_96 (dk_at dksX8_putsFrom_7 0 rfl rfl)
theorem dX8_putsFrom_166 : decode cX8_putsFrom 166 = .ok (.invokevirtual 351, 3) := dk_182 1 95 (dk_at dksX8_putsFrom_7 1 rfl rfl)
theorem dX8_putsFrom_169 : decode cX8_putsFrom 169 = .ok (.iinc 3 1, 3) := dk_132 3 1 (dk_at dksX8_putsFrom_7 4 rfl rfl)
theorem dX8_putsFrom_172 : decode cX8_putsFrom 172 = .ok (.goto (-117), 3) := dk_167 255 139 (dk_at dksX8_putsFrom_7 7 rfl rfl)
theorem dX8_putsFrom_175 : decode cX8_putsFrom 175 = .ok (.aload_n 0, 1) := dk_42 (dk_at dksX8_putsFrom_7 10 rfl rfl)
theorem dX8_putsFrom_176 : decode cX8_putsFrom 176 = .ok (.getfield 76, 3) := dk_180 0 76 (dk_at dksX8_putsFrom_7 11 rfl rfl)
theorem dX8_putsFrom_179 : decode cX8_putsFrom 179 = .ok (.bipush 80, 2) := dk_16 80 (dk_at dksX8_putsFrom_7 14 rfl rfl)
theorem dX8_putsFrom_181 : decode cX8_putsFrom 181 = .ok (.iload_n 1, 1) := dk_27 (dk_at dksX8_putsFrom_7 16 rfl rfl)
theorem dX8_putsFrom_182 : decode cX8_putsFrom 182 = .ok (.iadd, 1) := dk_96 (dk_at dksX8_putsFrom_7 17 rfl rfl)
theorem dX8_putsFrom_183 : decode cX8_putsFrom 183 = .ok (.iconst (-1), 1) := dk_2 (dk_at dksX8_putsFrom_7 18 rfl rfl)
theorem dX8_putsFrom_184 : decode cX8_putsFrom 184 = .ok (.iastore, 1) := dk_79 (dk_at dksX8_putsFrom_7 19 rfl rfl)
theorem dX8_putsFrom_185 : decode cX8_putsFrom 185 = .ok (.return_, 1) := dk_177 (dk_at dksX8_putsFrom_7 20 rfl rfl)
abbrev cX8_placed : ByteArray := prog_30_method_82_code
def yX8_placed : MethodName := ⟨RX8, "placed", "(I)I"⟩
def dkwX8_placed_1 : List UInt8 := [153, 0, 5, 3, 172, 42, 182, 1, 98, 42, 180, 0, 88, 27, 46, 172]
abbrev dktX8_placed_1 : List UInt8 := dkwX8_placed_1 ++ []
def dkwX8_placed_0 : List UInt8 := [42, 3, 181, 0, 106, 42, 42, 27, 182, 1, 89, 154, 0, 7, 4, 167, 0, 4, 3, 4, 3, 182, 0, 189]
abbrev dktX8_placed_0 : List UInt8 := dkwX8_placed_0 ++ dktX8_placed_1
theorem dksX8_placed_0 : cX8_placed.data.toList.drop 0 = dktX8_placed_0 := by decide +kernel
theorem dksX8_placed_1 : cX8_placed.data.toList.drop 24 = dktX8_placed_1 := dk_seg dksX8_placed_0 24 rfl rfl
theorem dX8_placed_0 : decode cX8_placed 0 = .ok (.aload_n 0, 1) := dk_42 (dk_at dksX8_placed_0 0 rfl rfl)
theorem dX8_placed_1 : decode cX8_placed 1 = .ok (.iconst 0, 1) := dk_3 (dk_at dksX8_placed_0 1 rfl rfl)
theorem dX8_placed_2 : decode cX8_placed 2 = .ok (.putfield 106, 3) := dk_181 0 106 (dk_at dksX8_placed_0 2 rfl rfl)
theorem dX8_placed_5 : decode cX8_placed 5 = .ok (.aload_n 0, 1) := dk_42 (dk_at dksX8_placed_0 5 rfl rfl)
theorem dX8_placed_6 : decode cX8_placed 6 = .ok (.aload_n 0, 1) := dk_42 (dk_at dksX8_placed_0 6 rfl rfl)
theorem dX8_placed_7 : decode cX8_placed 7 = .ok (.iload_n 1, 1) := dk_27 (dk_at dksX8_placed_0 7 rfl rfl)
theorem dX8_placed_8 : decode cX8_placed 8 = .ok (.invokevirtual 345, 3) := dk_182 1 89 (dk_at dksX8_placed_0 8 rfl rfl)
theorem dX8_placed_11 : decode cX8_placed 11 = .ok (.ifCond .ne 7, 3) := dk_154 0 7 (dk_at dksX8_placed_0 11 rfl rfl)
theorem dX8_placed_14 : decode cX8_placed 14 = .ok (.iconst 1, 1) := dk_4 (dk_at dksX8_placed_0 14 rfl rfl)
theorem dX8_placed_15 : decode cX8_placed 15 = .ok (.goto 4, 3) := dk_167 0 4 (dk_at dksX8_placed_0 15 rfl rfl)
theorem dX8_placed_18 : decode cX8_placed 18 = .ok (.iconst 0, 1) := dk_3 (dk_at dksX8_placed_0 18 rfl rfl)
theorem dX8_placed_19 : decode cX8_placed 19 = .ok (.iconst 1, 1) := dk_4 (dk_at dksX8_placed_0 19 rfl rfl)
theorem dX8_placed_20 : decode cX8_placed 20 = .ok (.iconst 0, 1) := dk_3 (dk_at dksX8_placed_0 20 rfl rfl)
theorem dX8_placed_21 : decode cX8_placed 21 = .ok (.invokevirtual 189, 3) := dk_182 0 189 (dk_at dksX8_placed_0 21 rfl rfl)
theorem dX8_placed_24 : decode cX8_placed 24 = .ok (.ifCond .eq 5, 3) := dk_153 0 5 (dk_at dksX8_placed_1 0 rfl rfl)
theorem dX8_placed_27 : decode cX8_placed 27 = .ok (.iconst 0, 1) := dk_3 (dk_at dksX8_placed_1 3 rfl rfl)
theorem dX8_placed_28 : decode cX8_placed 28 = .ok (.ireturn, 1) := dk_172 (dk_at dksX8_placed_1 4 rfl rfl)
theorem dX8_placed_29 : decode cX8_placed 29 = .ok (.aload_n 0, 1) := dk_42 (dk_at dksX8_placed_1 5 rfl rfl)
theorem dX8_placed_30 : decode cX8_placed 30 = .ok (.invokevirtual 354, 3) := dk_182 1 98 (dk_at dksX8_placed_1 6 rfl rfl)
theorem dX8_placed_33 : decode cX8_placed 33 = .ok (.aload_n 0, 1) := dk_42 (dk_at dksX8_placed_1 9 rfl rfl)
theorem dX8_placed_34 : decode cX8_placed 34 = .ok (.getfield 88, 3) := dk_180 0 88 (dk_at dksX8_placed_1 10 rfl rfl)
theorem dX8_placed_37 : decode cX8_placed 37 = .ok (.iload_n 1, 1) := dk_27 (dk_at dksX8_placed_1 13 rfl rfl)
theorem dX8_placed_38 : decode cX8_placed 38 = .ok (.iaload, 1) := dk_46 (dk_at dksX8_placed_1 14 rfl rfl)
theorem dX8_placed_39 : decode cX8_placed 39 = .ok (.ireturn, 1) := dk_172 (dk_at dksX8_placed_1 15 rfl rfl)
abbrev cX8_from : ByteArray := prog_30_method_85_code
def yX8_from : MethodName := ⟨RX8, "from", "(II)I"⟩
def dkwX8_from_6 : List UInt8 := [21, 4, 172]
abbrev dktX8_from_6 : List UInt8 := dkwX8_from_6 ++ []
def dkwX8_from_5 : List UInt8 := [132, 3, 1, 132, 6, 1, 167, 255, 205, 132, 5, 1, 167, 255, 189, 28, 154, 0, 7, 29, 167, 0, 5]
abbrev dktX8_from_5 : List UInt8 := dkwX8_from_5 ++ dktX8_from_6
def dkwX8_from_4 : List UInt8 := [167, 0, 25, 29, 154, 0, 14, 16, 100, 21, 5, 104, 21, 6, 96, 167, 0, 5, 21, 4, 54, 4]
abbrev dktX8_from_4 : List UInt8 := dkwX8_from_4 ++ dktX8_from_5
def dkwX8_from_3 : List UInt8 := [21, 6, 16, 99, 163, 0, 50, 42, 27, 21, 5, 21, 6, 182, 1, 101, 42, 182, 1, 105, 154, 0, 6]
abbrev dktX8_from_3 : List UInt8 := dkwX8_from_3 ++ dktX8_from_4
def dkwX8_from_2 : List UInt8 := [153, 0, 5, 3, 172, 3, 62, 2, 54, 4, 4, 54, 5, 21, 5, 16, 9, 163, 0, 66, 3, 54, 6]
abbrev dktX8_from_2 : List UInt8 := dkwX8_from_2 ++ dktX8_from_3
def dkwX8_from_1 : List UInt8 := [154, 0, 26, 42, 28, 3, 4, 184, 0, 140, 154, 0, 7, 4, 167, 0, 4, 3, 5, 4, 182, 0, 189]
abbrev dktX8_from_1 : List UInt8 := dkwX8_from_1 ++ dktX8_from_2
def dkwX8_from_0 : List UInt8 := [42, 3, 181, 0, 106, 42, 42, 27, 182, 1, 83, 154, 0, 7, 4, 167, 0, 4, 3, 4, 3, 182, 0, 189]
abbrev dktX8_from_0 : List UInt8 := dkwX8_from_0 ++ dktX8_from_1
theorem dksX8_from_0 : cX8_from.data.toList.drop 0 = dktX8_from_0 := by decide +kernel
theorem dksX8_from_1 : cX8_from.data.toList.drop 24 = dktX8_from_1 := dk_seg dksX8_from_0 24 rfl rfl
theorem dksX8_from_2 : cX8_from.data.toList.drop 47 = dktX8_from_2 := dk_seg dksX8_from_1 23 rfl rfl
theorem dksX8_from_3 : cX8_from.data.toList.drop 70 = dktX8_from_3 := dk_seg dksX8_from_2 23 rfl rfl
theorem dksX8_from_4 : cX8_from.data.toList.drop 93 = dktX8_from_4 := dk_seg dksX8_from_3 23 rfl rfl
theorem dksX8_from_5 : cX8_from.data.toList.drop 115 = dktX8_from_5 := dk_seg dksX8_from_4 22 rfl rfl
theorem dksX8_from_6 : cX8_from.data.toList.drop 138 = dktX8_from_6 := dk_seg dksX8_from_5 23 rfl rfl
theorem dX8_from_0 : decode cX8_from 0 = .ok (.aload_n 0, 1) := dk_42 (dk_at dksX8_from_0 0 rfl rfl)
theorem dX8_from_1 : decode cX8_from 1 = .ok (.iconst 0, 1) := dk_3 (dk_at dksX8_from_0 1 rfl rfl)
theorem dX8_from_2 : decode cX8_from 2 = .ok (.putfield 106, 3) := dk_181 0 106 (dk_at dksX8_from_0 2 rfl rfl)
theorem dX8_from_5 : decode cX8_from 5 = .ok (.aload_n 0, 1) := dk_42 (dk_at dksX8_from_0 5 rfl rfl)
theorem dX8_from_6 : decode cX8_from 6 = .ok (.aload_n 0, 1) := dk_42 (dk_at dksX8_from_0 6 rfl rfl)
theorem dX8_from_7 : decode cX8_from 7 = .ok (.iload_n 1, 1) := dk_27 (dk_at dksX8_from_0 7 rfl rfl)
theorem dX8_from_8 : decode cX8_from 8 = .ok (.invokevirtual 339, 3) := dk_182 1 83 (dk_at dksX8_from_0 8 rfl rfl)
theorem dX8_from_11 : decode cX8_from 11 = .ok (.ifCond .ne 7, 3) := dk_154 0 7 (dk_at dksX8_from_0 11 rfl rfl)
theorem dX8_from_14 : decode cX8_from 14 = .ok (.iconst 1, 1) := dk_4 (dk_at dksX8_from_0 14 rfl rfl)
theorem dX8_from_15 : decode cX8_from 15 = .ok (.goto 4, 3) := dk_167 0 4 (dk_at dksX8_from_0 15 rfl rfl)
theorem dX8_from_18 : decode cX8_from 18 = .ok (.iconst 0, 1) := dk_3 (dk_at dksX8_from_0 18 rfl rfl)
theorem dX8_from_19 : decode cX8_from 19 = .ok (.iconst 1, 1) := dk_4 (dk_at dksX8_from_0 19 rfl rfl)
theorem dX8_from_20 : decode cX8_from 20 = .ok (.iconst 0, 1) := dk_3 (dk_at dksX8_from_0 20 rfl rfl)
theorem dX8_from_21 : decode cX8_from 21 = .ok (.invokevirtual 189, 3) := dk_182 0 189 (dk_at dksX8_from_0 21 rfl rfl)
theorem dX8_from_24 : decode cX8_from 24 = .ok (.ifCond .ne 26, 3) := dk_154 0 26 (dk_at dksX8_from_1 0 rfl rfl)
theorem dX8_from_27 : decode cX8_from 27 = .ok (.aload_n 0, 1) := dk_42 (dk_at dksX8_from_1 3 rfl rfl)
theorem dX8_from_28 : decode cX8_from 28 = .ok (.iload_n 2, 1) := dk_28 (dk_at dksX8_from_1 4 rfl rfl)
theorem dX8_from_29 : decode cX8_from 29 = .ok (.iconst 0, 1) := dk_3 (dk_at dksX8_from_1 5 rfl rfl)
theorem dX8_from_30 : decode cX8_from 30 = .ok (.iconst 1, 1) := dk_4 (dk_at dksX8_from_1 6 rfl rfl)
theorem dX8_from_31 : decode cX8_from 31 = .ok (.invokestatic 140, 3) := dk_184 0 140 (dk_at dksX8_from_1 7 rfl rfl)
theorem dX8_from_34 : decode cX8_from 34 = .ok (.ifCond .ne 7, 3) := dk_154 0 7 (dk_at dksX8_from_1 10 rfl rfl)
theorem dX8_from_37 : decode cX8_from 37 = .ok (.iconst 1, 1) := dk_4 (dk_at dksX8_from_1 13 rfl rfl)
theorem dX8_from_38 : decode cX8_from 38 = .ok (.goto 4, 3) := dk_167 0 4 (dk_at dksX8_from_1 14 rfl rfl)
theorem dX8_from_41 : decode cX8_from 41 = .ok (.iconst 0, 1) := dk_3 (dk_at dksX8_from_1 17 rfl rfl)
theorem dX8_from_42 : decode cX8_from 42 = .ok (.iconst 2, 1) := dk_5 (dk_at dksX8_from_1 18 rfl rfl)
theorem dX8_from_43 : decode cX8_from 43 = .ok (.iconst 1, 1) := dk_4 (dk_at dksX8_from_1 19 rfl rfl)
theorem dX8_from_44 : decode cX8_from 44 = .ok (.invokevirtual 189, 3) := dk_182 0 189 (dk_at dksX8_from_1 20 rfl rfl)
theorem dX8_from_47 : decode cX8_from 47 = .ok (.ifCond .eq 5, 3) := dk_153 0 5 (dk_at dksX8_from_2 0 rfl rfl)
theorem dX8_from_50 : decode cX8_from 50 = .ok (.iconst 0, 1) := dk_3 (dk_at dksX8_from_2 3 rfl rfl)
theorem dX8_from_51 : decode cX8_from 51 = .ok (.ireturn, 1) := dk_172 (dk_at dksX8_from_2 4 rfl rfl)
theorem dX8_from_52 : decode cX8_from 52 = .ok (.iconst 0, 1) := dk_3 (dk_at dksX8_from_2 5 rfl rfl)
theorem dX8_from_53 : decode cX8_from 53 = .ok (.istore_n 3, 1) := dk_62 (dk_at dksX8_from_2 6 rfl rfl)
theorem dX8_from_54 : decode cX8_from 54 = .ok (.iconst (-1), 1) := dk_2 (dk_at dksX8_from_2 7 rfl rfl)
theorem dX8_from_55 : decode cX8_from 55 = .ok (.istore 4, 2) := dk_54 4 (dk_at dksX8_from_2 8 rfl rfl)
theorem dX8_from_57 : decode cX8_from 57 = .ok (.iconst 1, 1) := dk_4 (dk_at dksX8_from_2 10 rfl rfl)
theorem dX8_from_58 : decode cX8_from 58 = .ok (.istore 5, 2) := dk_54 5 (dk_at dksX8_from_2 11 rfl rfl)
theorem dX8_from_60 : decode cX8_from 60 = .ok (.iload 5, 2) := dk_21 5 (dk_at dksX8_from_2 13 rfl rfl)
theorem dX8_from_62 : decode cX8_from 62 = .ok (.bipush 9, 2) := dk_16 9 (dk_at dksX8_from_2 15 rfl rfl)
theorem dX8_from_64 : decode cX8_from 64 = .ok (.if_icmp .gt 66, 3) := dk_163 0 66 (dk_at dksX8_from_2 17 rfl rfl)
theorem dX8_from_67 : decode cX8_from 67 = .ok (.iconst 0, 1) := dk_3 (dk_at dksX8_from_2 20 rfl rfl)
theorem dX8_from_68 : decode cX8_from 68 = .ok (.istore 6, 2) := dk_54 6 (dk_at dksX8_from_2 21 rfl rfl)
theorem dX8_from_70 : decode cX8_from 70 = .ok (.iload 6, 2) := dk_21 6 (dk_at dksX8_from_3 0 rfl rfl)
theorem dX8_from_72 : decode cX8_from 72 = .ok (.bipush 99, 2) := dk_16 99 (dk_at dksX8_from_3 2 rfl rfl)
theorem dX8_from_74 : decode cX8_from 74 = .ok (.if_icmp .gt 50, 3) := dk_163 0 50 (dk_at dksX8_from_3 4 rfl rfl)
theorem dX8_from_77 : decode cX8_from 77 = .ok (.aload_n 0, 1) := dk_42 (dk_at dksX8_from_3 7 rfl rfl)
theorem dX8_from_78 : decode cX8_from 78 = .ok (.iload_n 1, 1) := dk_27 (dk_at dksX8_from_3 8 rfl rfl)
theorem dX8_from_79 : decode cX8_from 79 = .ok (.iload 5, 2) := dk_21 5 (dk_at dksX8_from_3 9 rfl rfl)
theorem dX8_from_81 : decode cX8_from 81 = .ok (.iload 6, 2) := dk_21 6 (dk_at dksX8_from_3 11 rfl rfl)
theorem dX8_from_83 : decode cX8_from 83 = .ok (.invokevirtual 357, 3) := dk_182 1 101 (dk_at dksX8_from_3 13 rfl rfl)
theorem dX8_from_86 : decode cX8_from 86 = .ok (.aload_n 0, 1) := dk_42 (dk_at dksX8_from_3 16 rfl rfl)
theorem dX8_from_87 : decode cX8_from 87 = .ok (.invokevirtual 361, 3) := dk_182 1 105 (dk_at dksX8_from_3 17 rfl rfl)
theorem dX8_from_90 : decode cX8_from 90 = .ok (.ifCond .ne 6, 3) := dk_154 0 6 (dk_at dksX8_from_3 20 rfl rfl)
theorem dX8_from_93 : decode cX8_from 93 = .ok (.goto 25, 3) := dk_167 0 25 (dk_at dksX8_from_4 0 rfl rfl)
theorem dX8_from_96 : decode cX8_from 96 = .ok (.iload_n 3, 1) := dk_29 (dk_at dksX8_from_4 3 rfl rfl)
theorem dX8_from_97 : decode cX8_from 97 = .ok (.ifCond .ne 14, 3) := dk_154 0 14 (dk_at dksX8_from_4 4 rfl rfl)
theorem dX8_from_100 : decode cX8_from 100 = .ok (.bipush 100, 2) := dk_16 100 (dk_at dksX8_from_4 7 rfl rfl)
theorem dX8_from_102 : decode cX8_from 102 = .ok (.iload 5, 2) := dk_21 5 (dk_at dksX8_from_4 9 rfl rfl)
theorem dX8_from_104 : decode cX8_from 104 = .ok (.imul, 1) := dk_104 (dk_at dksX8_from_4 11 rfl rfl)
theorem dX8_from_105 : decode cX8_from 105 = .ok (.iload 6, 2) := dk_21 6 (dk_at dksX8_from_4 12 rfl rfl)
theorem dX8_from_107 : decode cX8_from 107 = .ok (.iadd, 1) := dk_96 (dk_at dksX8_from_4 14 rfl rfl)
theorem dX8_from_108 : decode cX8_from 108 = .ok (.goto 5, 3) := dk_167 0 5 (dk_at dksX8_from_4 15 rfl rfl)
theorem dX8_from_111 : decode cX8_from 111 = .ok (.iload 4, 2) := dk_21 4 (dk_at dksX8_from_4 18 rfl rfl)
theorem dX8_from_113 : decode cX8_from 113 = .ok (.istore 4, 2) := dk_54 4 (dk_at dksX8_from_4 20 rfl rfl)
theorem dX8_from_115 : decode cX8_from 115 = .ok (.iinc 3 1, 3) := dk_132 3 1 (dk_at dksX8_from_5 0 rfl rfl)
theorem dX8_from_118 : decode cX8_from 118 = .ok (.iinc 6 1, 3) := dk_132 6 1 (dk_at dksX8_from_5 3 rfl rfl)
theorem dX8_from_121 : decode cX8_from 121 = .ok (.goto (-51), 3) := dk_167 255 205 (dk_at dksX8_from_5 6 rfl rfl)
theorem dX8_from_124 : decode cX8_from 124 = .ok (.iinc 5 1, 3) := dk_132 5 1 (dk_at dksX8_from_5 9 rfl rfl)
theorem dX8_from_127 : decode cX8_from 127 = .ok (.goto (-67), 3) := dk_167 255 189 (dk_at dksX8_from_5 12 rfl rfl)
theorem dX8_from_130 : decode cX8_from 130 = .ok (.iload_n 2, 1) := dk_28 (dk_at dksX8_from_5 15 rfl rfl)
theorem dX8_from_131 : decode cX8_from 131 = .ok (.ifCond .ne 7, 3) := dk_154 0 7 (dk_at dksX8_from_5 16 rfl rfl)
theorem dX8_from_134 : decode cX8_from 134 = .ok (.iload_n 3, 1) := dk_29 (dk_at dksX8_from_5 19 rfl rfl)
theorem dX8_from_135 : decode cX8_from 135 = .ok (.goto 5, 3) := dk_167 0 5 (dk_at dksX8_from_5 20 rfl rfl)
theorem dX8_from_138 : decode cX8_from 138 = .ok (.iload 4, 2) := dk_21 4 (dk_at dksX8_from_6 0 rfl rfl)
theorem dX8_from_140 : decode cX8_from 140 = .ok (.ireturn, 1) := dk_172 (dk_at dksX8_from_6 2 rfl rfl)
abbrev cX8_laysHeard : ByteArray := prog_30_method_83_code
def yX8_laysHeard : MethodName := ⟨RX8, "laysHeard", "(III)V"⟩
def dkwX8_laysHeard_2 : List UInt8 := [132, 5, 1, 167, 255, 212, 177]
abbrev dktX8_laysHeard_2 : List UInt8 := dkwX8_laysHeard_2 ++ []
def dkwX8_laysHeard_1 : List UInt8 := [21, 4, 42, 28, 3, 21, 5, 21, 4, 3, 3, 27, 21, 5, 182, 1, 22, 96, 184, 0, 249, 54, 4]
abbrev dktX8_laysHeard_1 : List UInt8 := dkwX8_laysHeard_1 ++ dktX8_laysHeard_2
def dkwX8_laysHeard_0 : List UInt8 := [29, 54, 4, 3, 54, 5, 21, 5, 16, 60, 163, 0, 43, 42, 180, 0, 91, 21, 5, 21, 4, 79, 16, 99]
abbrev dktX8_laysHeard_0 : List UInt8 := dkwX8_laysHeard_0 ++ dktX8_laysHeard_1
theorem dksX8_laysHeard_0 : cX8_laysHeard.data.toList.drop 0 = dktX8_laysHeard_0 := by decide +kernel
theorem dksX8_laysHeard_1 : cX8_laysHeard.data.toList.drop 24 = dktX8_laysHeard_1 := dk_seg dksX8_laysHeard_0 24 rfl rfl
theorem dksX8_laysHeard_2 : cX8_laysHeard.data.toList.drop 47 = dktX8_laysHeard_2 := dk_seg dksX8_laysHeard_1 23 rfl rfl
theorem dX8_laysHeard_0 : decode cX8_laysHeard 0 = .ok (.iload_n 3, 1) := dk_29 (dk_at dksX8_laysHeard_0 0 rfl rfl)
theorem dX8_laysHeard_1 : decode cX8_laysHeard 1 = .ok (.istore 4, 2) := dk_54 4 (dk_at dksX8_laysHeard_0 1 rfl rfl)
theorem dX8_laysHeard_3 : decode cX8_laysHeard 3 = .ok (.iconst 0, 1) := dk_3 (dk_at dksX8_laysHeard_0 3 rfl rfl)
theorem dX8_laysHeard_4 : decode cX8_laysHeard 4 = .ok (.istore 5, 2) := dk_54 5 (dk_at dksX8_laysHeard_0 4 rfl rfl)
theorem dX8_laysHeard_6 : decode cX8_laysHeard 6 = .ok (.iload 5, 2) := dk_21 5 (dk_at dksX8_laysHeard_0 6 rfl rfl)
theorem dX8_laysHeard_8 : decode cX8_laysHeard 8 = .ok (.bipush 60, 2) := dk_16 60 (dk_at dksX8_laysHeard_0 8 rfl rfl)
theorem dX8_laysHeard_10 : decode cX8_laysHeard 10 = .ok (.if_icmp .gt 43, 3) := dk_163 0 43 (dk_at dksX8_laysHeard_0 10 rfl rfl)
theorem dX8_laysHeard_13 : decode cX8_laysHeard 13 = .ok (.aload_n 0, 1) := dk_42 (dk_at dksX8_laysHeard_0 13 rfl rfl)
theorem dX8_laysHeard_14 : decode cX8_laysHeard 14 = .ok (.getfield 91, 3) := dk_180 0 91 (dk_at dksX8_laysHeard_0 14 rfl rfl)
theorem dX8_laysHeard_17 : decode cX8_laysHeard 17 = .ok (.iload 5, 2) := dk_21 5 (dk_at dksX8_laysHeard_0 17 rfl rfl)
theorem dX8_laysHeard_19 : decode cX8_laysHeard 19 = .ok (.iload 4, 2) := dk_21 4 (dk_at dksX8_laysHeard_0 19 rfl rfl)
theorem dX8_laysHeard_21 : decode cX8_laysHeard 21 = .ok (.iastore, 1) := dk_79 (dk_at dksX8_laysHeard_0 21 rfl rfl)
theorem dX8_laysHeard_22 : decode cX8_laysHeard 22 = .ok (.bipush 99, 2) := dk_16 99 (dk_at dksX8_laysHeard_0 22 rfl rfl)
theorem dX8_laysHeard_24 : decode cX8_laysHeard 24 = .ok (.iload 4, 2) := dk_21 4 (dk_at dksX8_laysHeard_1 0 rfl rfl)
theorem dX8_laysHeard_26 : decode cX8_laysHeard 26 = .ok (.aload_n 0, 1) := dk_42 (dk_at dksX8_laysHeard_1 2 rfl rfl)
theorem dX8_laysHeard_27 : decode cX8_laysHeard 27 = .ok (.iload_n 2, 1) := dk_28 (dk_at dksX8_laysHeard_1 3 rfl rfl)
theorem dX8_laysHeard_28 : decode cX8_laysHeard 28 = .ok (.iconst 0, 1) := dk_3 (dk_at dksX8_laysHeard_1 4 rfl rfl)
theorem dX8_laysHeard_29 : decode cX8_laysHeard 29 = .ok (.iload 5, 2) := dk_21 5 (dk_at dksX8_laysHeard_1 5 rfl rfl)
theorem dX8_laysHeard_31 : decode cX8_laysHeard 31 = .ok (.iload 4, 2) := dk_21 4 (dk_at dksX8_laysHeard_1 7 rfl rfl)
theorem dX8_laysHeard_33 : decode cX8_laysHeard 33 = .ok (.iconst 0, 1) := dk_3 (dk_at dksX8_laysHeard_1 9 rfl rfl)
theorem dX8_laysHeard_34 : decode cX8_laysHeard 34 = .ok (.iconst 0, 1) := dk_3 (dk_at dksX8_laysHeard_1 10 rfl rfl)
theorem dX8_laysHeard_35 : decode cX8_laysHeard 35 = .ok (.iload_n 1, 1) := dk_27 (dk_at dksX8_laysHeard_1 11 rfl rfl)
theorem dX8_laysHeard_36 : decode cX8_laysHeard 36 = .ok (.iload 5, 2) := dk_21 5 (dk_at dksX8_laysHeard_1 12 rfl rfl)
theorem dX8_laysHeard_38 : decode cX8_laysHeard 38 = .ok (.invokevirtual 278, 3) := dk_182 1 22 (dk_at dksX8_laysHeard_1 14 rfl rfl)
theorem dX8_laysHeard_41 : decode cX8_laysHeard 41 = .ok (.iadd, 1) := dk_96 (dk_at dksX8_laysHeard_1 17 rfl rfl)
theorem dX8_laysHeard_42 : decode cX8_laysHeard 42 = .ok (.invokestatic 249, 3) := dk_184 0 249 (dk_at dksX8_laysHeard_1 18 rfl rfl)
theorem dX8_laysHeard_45 : decode cX8_laysHeard 45 = .ok (.istore 4, 2) := dk_54 4 (dk_at dksX8_laysHeard_1 21 rfl rfl)
theorem dX8_laysHeard_47 : decode cX8_laysHeard 47 = .ok (.iinc 5 1, 3) := dk_132 5 1 (dk_at dksX8_laysHeard_2 0 rfl rfl)
theorem dX8_laysHeard_50 : decode cX8_laysHeard 50 = .ok (.goto (-44), 3) := dk_167 255 212 (dk_at dksX8_laysHeard_2 3 rfl rfl)
theorem dX8_laysHeard_53 : decode cX8_laysHeard 53 = .ok (.return_, 1) := dk_177 (dk_at dksX8_laysHeard_2 6 rfl rfl)
abbrev cX8_isHeard : ByteArray := prog_30_method_84_code
def yX8_isHeard : MethodName := ⟨RX8, "isHeard", "()Z"⟩
def dkwX8_isHeard_1 : List UInt8 := [180, 0, 58, 27, 50, 4, 46, 159, 0, 5, 3, 172, 132, 1, 1, 167, 255, 219, 4, 172]
abbrev dktX8_isHeard_1 : List UInt8 := dkwX8_isHeard_1 ++ []
def dkwX8_isHeard_0 : List UInt8 := [3, 60, 27, 42, 180, 0, 209, 162, 0, 35, 42, 180, 0, 91, 42, 180, 0, 58, 27, 50, 3, 46, 46, 42]
abbrev dktX8_isHeard_0 : List UInt8 := dkwX8_isHeard_0 ++ dktX8_isHeard_1
theorem dksX8_isHeard_0 : cX8_isHeard.data.toList.drop 0 = dktX8_isHeard_0 := by decide +kernel
theorem dksX8_isHeard_1 : cX8_isHeard.data.toList.drop 24 = dktX8_isHeard_1 := dk_seg dksX8_isHeard_0 24 rfl rfl
theorem dX8_isHeard_0 : decode cX8_isHeard 0 = .ok (.iconst 0, 1) := dk_3 (dk_at dksX8_isHeard_0 0 rfl rfl)
theorem dX8_isHeard_1 : decode cX8_isHeard 1 = .ok (.istore_n 1, 1) := dk_60 (dk_at dksX8_isHeard_0 1 rfl rfl)
theorem dX8_isHeard_2 : decode cX8_isHeard 2 = .ok (.iload_n 1, 1) := dk_27 (dk_at dksX8_isHeard_0 2 rfl rfl)
theorem dX8_isHeard_3 : decode cX8_isHeard 3 = .ok (.aload_n 0, 1) := dk_42 (dk_at dksX8_isHeard_0 3 rfl rfl)
theorem dX8_isHeard_4 : decode cX8_isHeard 4 = .ok (.getfield 209, 3) := dk_180 0 209 (dk_at dksX8_isHeard_0 4 rfl rfl)
theorem dX8_isHeard_7 : decode cX8_isHeard 7 = .ok (.if_icmp .ge 35, 3) := dk_162 0 35 (dk_at dksX8_isHeard_0 7 rfl rfl)
theorem dX8_isHeard_10 : decode cX8_isHeard 10 = .ok (.aload_n 0, 1) := dk_42 (dk_at dksX8_isHeard_0 10 rfl rfl)
theorem dX8_isHeard_11 : decode cX8_isHeard 11 = .ok (.getfield 91, 3) := dk_180 0 91 (dk_at dksX8_isHeard_0 11 rfl rfl)
theorem dX8_isHeard_14 : decode cX8_isHeard 14 = .ok (.aload_n 0, 1) := dk_42 (dk_at dksX8_isHeard_0 14 rfl rfl)
theorem dX8_isHeard_15 : decode cX8_isHeard 15 = .ok (.getfield 58, 3) := dk_180 0 58 (dk_at dksX8_isHeard_0 15 rfl rfl)
theorem dX8_isHeard_18 : decode cX8_isHeard 18 = .ok (.iload_n 1, 1) := dk_27 (dk_at dksX8_isHeard_0 18 rfl rfl)
theorem dX8_isHeard_19 : decode cX8_isHeard 19 = .ok (.aaload, 1) := dk_50 (dk_at dksX8_isHeard_0 19 rfl rfl)
theorem dX8_isHeard_20 : decode cX8_isHeard 20 = .ok (.iconst 0, 1) := dk_3 (dk_at dksX8_isHeard_0 20 rfl rfl)
theorem dX8_isHeard_21 : decode cX8_isHeard 21 = .ok (.iaload, 1) := dk_46 (dk_at dksX8_isHeard_0 21 rfl rfl)
theorem dX8_isHeard_22 : decode cX8_isHeard 22 = .ok (.iaload, 1) := dk_46 (dk_at dksX8_isHeard_0 22 rfl rfl)
theorem dX8_isHeard_23 : decode cX8_isHeard 23 = .ok (.aload_n 0, 1) := dk_42 (dk_at dksX8_isHeard_0 23 rfl rfl)
theorem dX8_isHeard_24 : decode cX8_isHeard 24 = .ok (.getfield 58, 3) := dk_180 0 58 (dk_at dksX8_isHeard_1 0 rfl rfl)
theorem dX8_isHeard_27 : decode cX8_isHeard 27 = .ok (.iload_n 1, 1) := dk_27 (dk_at dksX8_isHeard_1 3 rfl rfl)
theorem dX8_isHeard_28 : decode cX8_isHeard 28 = .ok (.aaload, 1) := dk_50 (dk_at dksX8_isHeard_1 4 rfl rfl)
theorem dX8_isHeard_29 : decode cX8_isHeard 29 = .ok (.iconst 1, 1) := dk_4 (dk_at dksX8_isHeard_1 5 rfl rfl)
theorem dX8_isHeard_30 : decode cX8_isHeard 30 = .ok (.iaload, 1) := dk_46 (dk_at dksX8_isHeard_1 6 rfl rfl)
theorem dX8_isHeard_31 : decode cX8_isHeard 31 = .ok (.if_icmp .eq 5, 3) := dk_159 0 5 (dk_at dksX8_isHeard_1 7 rfl rfl)
theorem dX8_isHeard_34 : decode cX8_isHeard 34 = .ok (.iconst 0, 1) := dk_3 (dk_at dksX8_isHeard_1 10 rfl rfl)
theorem dX8_isHeard_35 : decode cX8_isHeard 35 = .ok (.ireturn, 1) := dk_172 (dk_at dksX8_isHeard_1 11 rfl rfl)
theorem dX8_isHeard_36 : decode cX8_isHeard 36 = .ok (.iinc 1 1, 3) := dk_132 1 1 (dk_at dksX8_isHeard_1 12 rfl rfl)
theorem dX8_isHeard_39 : decode cX8_isHeard 39 = .ok (.goto (-37), 3) := dk_167 255 219 (dk_at dksX8_isHeard_1 15 rfl rfl)
theorem dX8_isHeard_42 : decode cX8_isHeard 42 = .ok (.iconst 1, 1) := dk_4 (dk_at dksX8_isHeard_1 18 rfl rfl)
theorem dX8_isHeard_43 : decode cX8_isHeard 43 = .ok (.ireturn, 1) := dk_172 (dk_at dksX8_isHeard_1 19 rfl rfl)
abbrev cX8_look : ByteArray := prog_30_method_87_code
def yX8_look : MethodName := ⟨RX8, "look", "(II)I"⟩
def dkwX8_look_11 : List UInt8 := [167, 255, 176, 28, 154, 0, 7, 29, 167, 0, 5, 21, 4, 172]
abbrev dktX8_look_11 : List UInt8 := dkwX8_look_11 ++ []
def dkwX8_look_10 : List UInt8 := [159, 0, 13, 21, 6, 21, 4, 161, 0, 6, 167, 0, 10, 21, 5, 62, 21, 6, 54, 4, 132, 5, 1]
abbrev dktX8_look_10 : List UInt8 := dkwX8_look_10 ++ dktX8_look_11
def dkwX8_look_9 : List UInt8 := [42, 180, 0, 94, 21, 5, 50, 21, 7, 46, 184, 0, 252, 54, 6, 132, 7, 1, 167, 255, 229, 29, 2]
abbrev dktX8_look_9 : List UInt8 := dkwX8_look_9 ++ dktX8_look_10
def dkwX8_look_8 : List UInt8 := [182, 1, 108, 153, 0, 6, 167, 0, 61, 3, 54, 6, 3, 54, 7, 21, 7, 16, 99, 163, 0, 26, 21, 6]
abbrev dktX8_look_8 : List UInt8 := dkwX8_look_8 ++ dktX8_look_9
def dkwX8_look_7 : List UInt8 := [132, 3, 1, 167, 255, 181, 2, 62, 2, 54, 4, 3, 54, 5, 21, 5, 16, 60, 163, 0, 79, 42, 21, 5]
abbrev dktX8_look_7 : List UInt8 := dkwX8_look_7 ++ dktX8_look_8
def dkwX8_look_6 : List UInt8 := [180, 0, 91, 21, 5, 46, 92, 46, 4, 96, 79, 132, 5, 1, 167, 255, 227, 132, 4, 1, 167, 255, 196]
abbrev dktX8_look_6 : List UInt8 := dkwX8_look_6 ++ dktX8_look_7
def dkwX8_look_5 : List UInt8 := [182, 1, 105, 153, 0, 38, 3, 54, 5, 21, 5, 16, 60, 163, 0, 28, 42, 180, 0, 94, 21, 5, 50, 42]
abbrev dktX8_look_5 : List UInt8 := dkwX8_look_5 ++ dktX8_look_6
def dkwX8_look_4 : List UInt8 := [16, 9, 163, 0, 75, 3, 54, 4, 21, 4, 16, 99, 163, 0, 59, 42, 27, 29, 21, 4, 182, 1, 101, 42]
abbrev dktX8_look_4 : List UInt8 := dkwX8_look_4 ++ dktX8_look_5
def dkwX8_look_3 : List UInt8 := [180, 0, 94, 29, 50, 21, 4, 3, 79, 132, 4, 1, 167, 255, 236, 132, 3, 1, 167, 255, 221, 4, 62, 29]
abbrev dktX8_look_3 : List UInt8 := dkwX8_look_3 ++ dktX8_look_4
def dkwX8_look_2 : List UInt8 := [153, 0, 5, 3, 172, 3, 62, 29, 16, 60, 163, 0, 35, 3, 54, 4, 21, 4, 16, 99, 163, 0, 19, 42]
abbrev dktX8_look_2 : List UInt8 := dkwX8_look_2 ++ dktX8_look_3
def dkwX8_look_1 : List UInt8 := [154, 0, 26, 42, 28, 3, 4, 184, 0, 140, 154, 0, 7, 4, 167, 0, 4, 3, 5, 4, 182, 0, 189]
abbrev dktX8_look_1 : List UInt8 := dkwX8_look_1 ++ dktX8_look_2
def dkwX8_look_0 : List UInt8 := [42, 3, 181, 0, 106, 42, 42, 27, 182, 1, 83, 154, 0, 7, 4, 167, 0, 4, 3, 4, 3, 182, 0, 189]
abbrev dktX8_look_0 : List UInt8 := dkwX8_look_0 ++ dktX8_look_1
theorem dksX8_look_0 : cX8_look.data.toList.drop 0 = dktX8_look_0 := by decide +kernel
theorem dksX8_look_1 : cX8_look.data.toList.drop 24 = dktX8_look_1 := dk_seg dksX8_look_0 24 rfl rfl
theorem dksX8_look_2 : cX8_look.data.toList.drop 47 = dktX8_look_2 := dk_seg dksX8_look_1 23 rfl rfl
theorem dksX8_look_3 : cX8_look.data.toList.drop 71 = dktX8_look_3 := dk_seg dksX8_look_2 24 rfl rfl
theorem dksX8_look_4 : cX8_look.data.toList.drop 95 = dktX8_look_4 := dk_seg dksX8_look_3 24 rfl rfl
theorem dksX8_look_5 : cX8_look.data.toList.drop 119 = dktX8_look_5 := dk_seg dksX8_look_4 24 rfl rfl
theorem dksX8_look_6 : cX8_look.data.toList.drop 143 = dktX8_look_6 := dk_seg dksX8_look_5 24 rfl rfl
theorem dksX8_look_7 : cX8_look.data.toList.drop 166 = dktX8_look_7 := dk_seg dksX8_look_6 23 rfl rfl
theorem dksX8_look_8 : cX8_look.data.toList.drop 190 = dktX8_look_8 := dk_seg dksX8_look_7 24 rfl rfl
theorem dksX8_look_9 : cX8_look.data.toList.drop 214 = dktX8_look_9 := dk_seg dksX8_look_8 24 rfl rfl
theorem dksX8_look_10 : cX8_look.data.toList.drop 237 = dktX8_look_10 := dk_seg dksX8_look_9 23 rfl rfl
theorem dksX8_look_11 : cX8_look.data.toList.drop 260 = dktX8_look_11 := dk_seg dksX8_look_10 23 rfl rfl
theorem dX8_look_0 : decode cX8_look 0 = .ok (.aload_n 0, 1) := dk_42 (dk_at dksX8_look_0 0 rfl rfl)
theorem dX8_look_1 : decode cX8_look 1 = .ok (.iconst 0, 1) := dk_3 (dk_at dksX8_look_0 1 rfl rfl)
theorem dX8_look_2 : decode cX8_look 2 = .ok (.putfield 106, 3) := dk_181 0 106 (dk_at dksX8_look_0 2 rfl rfl)
theorem dX8_look_5 : decode cX8_look 5 = .ok (.aload_n 0, 1) := dk_42 (dk_at dksX8_look_0 5 rfl rfl)
theorem dX8_look_6 : decode cX8_look 6 = .ok (.aload_n 0, 1) := dk_42 (dk_at dksX8_look_0 6 rfl rfl)
theorem dX8_look_7 : decode cX8_look 7 = .ok (.iload_n 1, 1) := dk_27 (dk_at dksX8_look_0 7 rfl rfl)
theorem dX8_look_8 : decode cX8_look 8 = .ok (.invokevirtual 339, 3) := dk_182 1 83 (dk_at dksX8_look_0 8 rfl rfl)
theorem dX8_look_11 : decode cX8_look 11 = .ok (.ifCond .ne 7, 3) := dk_154 0 7 (dk_at dksX8_look_0 11 rfl rfl)
theorem dX8_look_14 : decode cX8_look 14 = .ok (.iconst 1, 1) := dk_4 (dk_at dksX8_look_0 14 rfl rfl)
theorem dX8_look_15 : decode cX8_look 15 = .ok (.goto 4, 3) := dk_167 0 4 (dk_at dksX8_look_0 15 rfl rfl)
theorem dX8_look_18 : decode cX8_look 18 = .ok (.iconst 0, 1) := dk_3 (dk_at dksX8_look_0 18 rfl rfl)
theorem dX8_look_19 : decode cX8_look 19 = .ok (.iconst 1, 1) := dk_4 (dk_at dksX8_look_0 19 rfl rfl)
theorem dX8_look_20 : decode cX8_look 20 = .ok (.iconst 0, 1) := dk_3 (dk_at dksX8_look_0 20 rfl rfl)
theorem dX8_look_21 : decode cX8_look 21 = .ok (.invokevirtual 189, 3) := dk_182 0 189 (dk_at dksX8_look_0 21 rfl rfl)
theorem dX8_look_24 : decode cX8_look 24 = .ok (.ifCond .ne 26, 3) := dk_154 0 26 (dk_at dksX8_look_1 0 rfl rfl)
theorem dX8_look_27 : decode cX8_look 27 = .ok (.aload_n 0, 1) := dk_42 (dk_at dksX8_look_1 3 rfl rfl)
theorem dX8_look_28 : decode cX8_look 28 = .ok (.iload_n 2, 1) := dk_28 (dk_at dksX8_look_1 4 rfl rfl)
theorem dX8_look_29 : decode cX8_look 29 = .ok (.iconst 0, 1) := dk_3 (dk_at dksX8_look_1 5 rfl rfl)
theorem dX8_look_30 : decode cX8_look 30 = .ok (.iconst 1, 1) := dk_4 (dk_at dksX8_look_1 6 rfl rfl)
theorem dX8_look_31 : decode cX8_look 31 = .ok (.invokestatic 140, 3) := dk_184 0 140 (dk_at dksX8_look_1 7 rfl rfl)
theorem dX8_look_34 : decode cX8_look 34 = .ok (.ifCond .ne 7, 3) := dk_154 0 7 (dk_at dksX8_look_1 10 rfl rfl)
theorem dX8_look_37 : decode cX8_look 37 = .ok (.iconst 1, 1) := dk_4 (dk_at dksX8_look_1 13 rfl rfl)
theorem dX8_look_38 : decode cX8_look 38 = .ok (.goto 4, 3) := dk_167 0 4 (dk_at dksX8_look_1 14 rfl rfl)
theorem dX8_look_41 : decode cX8_look 41 = .ok (.iconst 0, 1) := dk_3 (dk_at dksX8_look_1 17 rfl rfl)
theorem dX8_look_42 : decode cX8_look 42 = .ok (.iconst 2, 1) := dk_5 (dk_at dksX8_look_1 18 rfl rfl)
theorem dX8_look_43 : decode cX8_look 43 = .ok (.iconst 1, 1) := dk_4 (dk_at dksX8_look_1 19 rfl rfl)
theorem dX8_look_44 : decode cX8_look 44 = .ok (.invokevirtual 189, 3) := dk_182 0 189 (dk_at dksX8_look_1 20 rfl rfl)
theorem dX8_look_47 : decode cX8_look 47 = .ok (.ifCond .eq 5, 3) := dk_153 0 5 (dk_at dksX8_look_2 0 rfl rfl)
theorem dX8_look_50 : decode cX8_look 50 = .ok (.iconst 0, 1) := dk_3 (dk_at dksX8_look_2 3 rfl rfl)
theorem dX8_look_51 : decode cX8_look 51 = .ok (.ireturn, 1) := dk_172 (dk_at dksX8_look_2 4 rfl rfl)
theorem dX8_look_52 : decode cX8_look 52 = .ok (.iconst 0, 1) := dk_3 (dk_at dksX8_look_2 5 rfl rfl)
theorem dX8_look_53 : decode cX8_look 53 = .ok (.istore_n 3, 1) := dk_62 (dk_at dksX8_look_2 6 rfl rfl)
theorem dX8_look_54 : decode cX8_look 54 = .ok (.iload_n 3, 1) := dk_29 (dk_at dksX8_look_2 7 rfl rfl)
theorem dX8_look_55 : decode cX8_look 55 = .ok (.bipush 60, 2) := dk_16 60 (dk_at dksX8_look_2 8 rfl rfl)
theorem dX8_look_57 : decode cX8_look 57 = .ok (.if_icmp .gt 35, 3) := dk_163 0 35 (dk_at dksX8_look_2 10 rfl rfl)
theorem dX8_look_60 : decode cX8_look 60 = .ok (.iconst 0, 1) := dk_3 (dk_at dksX8_look_2 13 rfl rfl)
theorem dX8_look_61 : decode cX8_look 61 = .ok (.istore 4, 2) := dk_54 4 (dk_at dksX8_look_2 14 rfl rfl)
theorem dX8_look_63 : decode cX8_look 63 = .ok (.iload 4, 2) := dk_21 4 (dk_at dksX8_look_2 16 rfl rfl)
theorem dX8_look_65 : decode cX8_look 65 = .ok (.bipush 99, 2) := dk_16 99 (dk_at dksX8_look_2 18 rfl rfl)
theorem dX8_look_67 : decode cX8_look 67 = .ok (.if_icmp .gt 19, 3) := dk_163 0 19 (dk_at dksX8_look_2 20 rfl rfl)
theorem dX8_look_70 : decode cX8_look 70 = .ok (.aload_n 0, 1) := dk_42 (dk_at dksX8_look_2 23 rfl rfl)
theorem dX8_look_71 : decode cX8_look 71 = .ok (.getfield 94, 3) := dk_180 0 94 (dk_at dksX8_look_3 0 rfl rfl)
theorem dX8_look_74 : decode cX8_look 74 = .ok (.iload_n 3, 1) := dk_29 (dk_at dksX8_look_3 3 rfl rfl)
theorem dX8_look_75 : decode cX8_look 75 = .ok (.aaload, 1) := dk_50 (dk_at dksX8_look_3 4 rfl rfl)
theorem dX8_look_76 : decode cX8_look 76 = .ok (.iload 4, 2) := dk_21 4 (dk_at dksX8_look_3 5 rfl rfl)
theorem dX8_look_78 : decode cX8_look 78 = .ok (.iconst 0, 1) := dk_3 (dk_at dksX8_look_3 7 rfl rfl)
theorem dX8_look_79 : decode cX8_look 79 = .ok (.iastore, 1) := dk_79 (dk_at dksX8_look_3 8 rfl rfl)
theorem dX8_look_80 : decode cX8_look 80 = .ok (.iinc 4 1, 3) := dk_132 4 1 (dk_at dksX8_look_3 9 rfl rfl)
theorem dX8_look_83 : decode cX8_look 83 = .ok (.goto (-20), 3) := dk_167 255 236 (dk_at dksX8_look_3 12 rfl rfl)
theorem dX8_look_86 : decode cX8_look 86 = .ok (.iinc 3 1, 3) := dk_132 3 1 (dk_at dksX8_look_3 15 rfl rfl)
theorem dX8_look_89 : decode cX8_look 89 = .ok (.goto (-35), 3) := dk_167 255 221 (dk_at dksX8_look_3 18 rfl rfl)
theorem dX8_look_92 : decode cX8_look 92 = .ok (.iconst 1, 1) := dk_4 (dk_at dksX8_look_3 21 rfl rfl)
theorem dX8_look_93 : decode cX8_look 93 = .ok (.istore_n 3, 1) := dk_62 (dk_at dksX8_look_3 22 rfl rfl)
theorem dX8_look_94 : decode cX8_look 94 = .ok (.iload_n 3, 1) := dk_29 (dk_at dksX8_look_3 23 rfl rfl)
theorem dX8_look_95 : decode cX8_look 95 = .ok (.bipush 9, 2) := dk_16 9 (dk_at dksX8_look_4 0 rfl rfl)
theorem dX8_look_97 : decode cX8_look 97 = .ok (.if_icmp .gt 75, 3) := dk_163 0 75 (dk_at dksX8_look_4 2 rfl rfl)
theorem dX8_look_100 : decode cX8_look 100 = .ok (.iconst 0, 1) := dk_3 (dk_at dksX8_look_4 5 rfl rfl)
theorem dX8_look_101 : decode cX8_look 101 = .ok (.istore 4, 2) := dk_54 4 (dk_at dksX8_look_4 6 rfl rfl)
theorem dX8_look_103 : decode cX8_look 103 = .ok (.iload 4, 2) := dk_21 4 (dk_at dksX8_look_4 8 rfl rfl)
theorem dX8_look_105 : decode cX8_look 105 = .ok (.bipush 99, 2) := dk_16 99 (dk_at dksX8_look_4 10 rfl rfl)
theorem dX8_look_107 : decode cX8_look 107 = .ok (.if_icmp .gt 59, 3) := dk_163 0 59 (dk_at dksX8_look_4 12 rfl rfl)
theorem dX8_look_110 : decode cX8_look 110 = .ok (.aload_n 0, 1) := dk_42 (dk_at dksX8_look_4 15 rfl rfl)
theorem dX8_look_111 : decode cX8_look 111 = .ok (.iload_n 1, 1) := dk_27 (dk_at dksX8_look_4 16 rfl rfl)
theorem dX8_look_112 : decode cX8_look 112 = .ok (.iload_n 3, 1) := dk_29 (dk_at dksX8_look_4 17 rfl rfl)
theorem dX8_look_113 : decode cX8_look 113 = .ok (.iload 4, 2) := dk_21 4 (dk_at dksX8_look_4 18 rfl rfl)
theorem dX8_look_115 : decode cX8_look 115 = .ok (.invokevirtual 357, 3) := dk_182 1 101 (dk_at dksX8_look_4 20 rfl rfl)
theorem dX8_look_118 : decode cX8_look 118 = .ok (.aload_n 0, 1) := dk_42 (dk_at dksX8_look_4 23 rfl rfl)
theorem dX8_look_119 : decode cX8_look 119 = .ok (.invokevirtual 361, 3) := dk_182 1 105 (dk_at dksX8_look_5 0 rfl rfl)
theorem dX8_look_122 : decode cX8_look 122 = .ok (.ifCond .eq 38, 3) := dk_153 0 38 (dk_at dksX8_look_5 3 rfl rfl)
theorem dX8_look_125 : decode cX8_look 125 = .ok (.iconst 0, 1) := dk_3 (dk_at dksX8_look_5 6 rfl rfl)
theorem dX8_look_126 : decode cX8_look 126 = .ok (.istore 5, 2) := dk_54 5 (dk_at dksX8_look_5 7 rfl rfl)
theorem dX8_look_128 : decode cX8_look 128 = .ok (.iload 5, 2) := dk_21 5 (dk_at dksX8_look_5 9 rfl rfl)
theorem dX8_look_130 : decode cX8_look 130 = .ok (.bipush 60, 2) := dk_16 60 (dk_at dksX8_look_5 11 rfl rfl)
theorem dX8_look_132 : decode cX8_look 132 = .ok (.if_icmp .gt 28, 3) := dk_163 0 28 (dk_at dksX8_look_5 13 rfl rfl)
theorem dX8_look_135 : decode cX8_look 135 = .ok (.aload_n 0, 1) := dk_42 (dk_at dksX8_look_5 16 rfl rfl)
theorem dX8_look_136 : decode cX8_look 136 = .ok (.getfield 94, 3) := dk_180 0 94 (dk_at dksX8_look_5 17 rfl rfl)
theorem dX8_look_139 : decode cX8_look 139 = .ok (.iload 5, 2) := dk_21 5 (dk_at dksX8_look_5 20 rfl rfl)
theorem dX8_look_141 : decode cX8_look 141 = .ok (.aaload, 1) := dk_50 (dk_at dksX8_look_5 22 rfl rfl)
theorem dX8_look_142 : decode cX8_look 142 = .ok (.aload_n 0, 1) := dk_42 (dk_at dksX8_look_5 23 rfl rfl)
theorem dX8_look_143 : decode cX8_look 143 = .ok (.getfield 91, 3) := dk_180 0 91 (dk_at dksX8_look_6 0 rfl rfl)
theorem dX8_look_146 : decode cX8_look 146 = .ok (.iload 5, 2) := dk_21 5 (dk_at dksX8_look_6 3 rfl rfl)
theorem dX8_look_148 : decode cX8_look 148 = .ok (.iaload, 1) := dk_46 (dk_at dksX8_look_6 5 rfl rfl)
theorem dX8_look_149 : decode cX8_look 149 = .ok (.dup2, 1) := dk_92 (dk_at dksX8_look_6 6 rfl rfl)
theorem dX8_look_150 : decode cX8_look 150 = .ok (.iaload, 1) := dk_46 (dk_at dksX8_look_6 7 rfl rfl)
theorem dX8_look_151 : decode cX8_look 151 = .ok (.iconst 1, 1) := dk_4 (dk_at dksX8_look_6 8 rfl rfl)
theorem dX8_look_152 : decode cX8_look 152 = .ok (.iadd, 1) := dk_96 (dk_at dksX8_look_6 9 rfl rfl)
theorem dX8_look_153 : decode cX8_look 153 = .ok (.iastore, 1) := dk_79 (dk_at dksX8_look_6 10 rfl rfl)
theorem dX8_look_154 : decode cX8_look 154 = .ok (.iinc 5 1, 3) := dk_132 5 1 (dk_at dksX8_look_6 11 rfl rfl)
theorem dX8_look_157 : decode cX8_look 157 = .ok (.goto (-29), 3) := dk_167 255 227 (dk_at dksX8_look_6 14 rfl rfl)
theorem dX8_look_160 : decode cX8_look 160 = .ok (.iinc 4 1, 3) := dk_132 4 1 (dk_at dksX8_look_6 17 rfl rfl)
theorem dX8_look_163 : decode cX8_look 163 = .ok (.goto (-60), 3) := dk_167 255 196 (dk_at dksX8_look_6 20 rfl rfl)
theorem dX8_look_166 : decode cX8_look 166 = .ok (.iinc 3 1, 3) := dk_132 3 1 (dk_at dksX8_look_7 0 rfl rfl)
theorem dX8_look_169 : decode cX8_look 169 = .ok (.goto (-75), 3) := dk_167 255 181 (dk_at dksX8_look_7 3 rfl rfl)
theorem dX8_look_172 : decode cX8_look 172 = .ok (.iconst (-1), 1) := dk_2 (dk_at dksX8_look_7 6 rfl rfl)
theorem dX8_look_173 : decode cX8_look 173 = .ok (.istore_n 3, 1) := dk_62 (dk_at dksX8_look_7 7 rfl rfl)
theorem dX8_look_174 : decode cX8_look 174 = .ok (.iconst (-1), 1) := dk_2 (dk_at dksX8_look_7 8 rfl rfl)
theorem dX8_look_175 : decode cX8_look 175 = .ok (.istore 4, 2) := dk_54 4 (dk_at dksX8_look_7 9 rfl rfl)
theorem dX8_look_177 : decode cX8_look 177 = .ok (.iconst 0, 1) := dk_3 (dk_at dksX8_look_7 11 rfl rfl)
theorem dX8_look_178 : decode cX8_look 178 = .ok (.istore 5, 2) := dk_54 5 (dk_at dksX8_look_7 12 rfl rfl)
theorem dX8_look_180 : decode cX8_look 180 = .ok (.iload 5, 2) := dk_21 5 (dk_at dksX8_look_7 14 rfl rfl)
theorem dX8_look_182 : decode cX8_look 182 = .ok (.bipush 60, 2) := dk_16 60 (dk_at dksX8_look_7 16 rfl rfl)
theorem dX8_look_184 : decode cX8_look 184 = .ok (.if_icmp .gt 79, 3) := dk_163 0 79 (dk_at dksX8_look_7 18 rfl rfl)
theorem dX8_look_187 : decode cX8_look 187 = .ok (.aload_n 0, 1) := dk_42 (dk_at dksX8_look_7 21 rfl rfl)
theorem dX8_look_188 : decode cX8_look 188 = .ok (.iload 5, 2) := dk_21 5 (dk_at dksX8_look_7 22 rfl rfl)
theorem dX8_look_190 : decode cX8_look 190 = .ok (.invokevirtual 364, 3) := dk_182 1 108 (dk_at dksX8_look_8 0 rfl rfl)
theorem dX8_look_193 : decode cX8_look 193 = .ok (.ifCond .eq 6, 3) := dk_153 0 6 (dk_at dksX8_look_8 3 rfl rfl)
theorem dX8_look_196 : decode cX8_look 196 = .ok (.goto 61, 3) := dk_167 0 61 (dk_at dksX8_look_8 6 rfl rfl)
theorem dX8_look_199 : decode cX8_look 199 = .ok (.iconst 0, 1) := dk_3 (dk_at dksX8_look_8 9 rfl rfl)
theorem dX8_look_200 : decode cX8_look 200 = .ok (.istore 6, 2) := dk_54 6 (dk_at dksX8_look_8 10 rfl rfl)
theorem dX8_look_202 : decode cX8_look 202 = .ok (.iconst 0, 1) := dk_3 (dk_at dksX8_look_8 12 rfl rfl)
theorem dX8_look_203 : decode cX8_look 203 = .ok (.istore 7, 2) := dk_54 7 (dk_at dksX8_look_8 13 rfl rfl)
theorem dX8_look_205 : decode cX8_look 205 = .ok (.iload 7, 2) := dk_21 7 (dk_at dksX8_look_8 15 rfl rfl)
theorem dX8_look_207 : decode cX8_look 207 = .ok (.bipush 99, 2) := dk_16 99 (dk_at dksX8_look_8 17 rfl rfl)
theorem dX8_look_209 : decode cX8_look 209 = .ok (.if_icmp .gt 26, 3) := dk_163 0 26 (dk_at dksX8_look_8 19 rfl rfl)
theorem dX8_look_212 : decode cX8_look 212 = .ok (.iload 6, 2) := dk_21 6 (dk_at dksX8_look_8 22 rfl rfl)
theorem dX8_look_214 : decode cX8_look 214 = .ok (.aload_n 0, 1) := dk_42 (dk_at dksX8_look_9 0 rfl rfl)
theorem dX8_look_215 : decode cX8_look 215 = .ok (.getfield 94, 3) := dk_180 0 94 (dk_at dksX8_look_9 1 rfl rfl)
theorem dX8_look_218 : decode cX8_look 218 = .ok (.iload 5, 2) := dk_21 5 (dk_at dksX8_look_9 4 rfl rfl)
theorem dX8_look_220 : decode cX8_look 220 = .ok (.aaload, 1) := dk_50 (dk_at dksX8_look_9 6 rfl rfl)
theorem dX8_look_221 : decode cX8_look 221 = .ok (.iload 7, 2) := dk_21 7 (dk_at dksX8_look_9 7 rfl rfl)
theorem dX8_look_223 : decode cX8_look 223 = .ok (.iaload, 1) := dk_46 (dk_at dksX8_look_9 9 rfl rfl)
theorem dX8_look_224 : decode cX8_look 224 = .ok (.invokestatic 252, 3) := dk_184 0 252 (dk_at dksX8_look_9 10 rfl rfl)
theorem dX8_look_227 : decode cX8_look 227 = .ok (.istore 6, 2) := dk_54 6 (dk_at dksX8_look_9 13 rfl rfl)
theorem dX8_look_229 : decode cX8_look 229 = .ok (.iinc 7 1, 3) := dk_132 7 1 (dk_at dksX8_look_9 15 rfl rfl)
theorem dX8_look_232 : decode cX8_look 232 = .ok (.goto (-27), 3) := dk_167 255 229 (dk_at dksX8_look_9 18 rfl rfl)
theorem dX8_look_235 : decode cX8_look 235 = .ok (.iload_n 3, 1) := dk_29 (dk_at dksX8_look_9 21 rfl rfl)
theorem dX8_look_236 : decode cX8_look 236 = .ok (.iconst (-1), 1) := dk_2 (dk_at dksX8_look_9 22 rfl rfl)
theorem dX8_look_237 : decode cX8_look 237 = .ok (.if_icmp .eq 13, 3) := dk_159 0 13 (dk_at dksX8_look_10 0 rfl rfl)
theorem dX8_look_240 : decode cX8_look 240 = .ok (.iload 6, 2) := dk_21 6 (dk_at dksX8_look_10 3 rfl rfl)
theorem dX8_look_242 : decode cX8_look 242 = .ok (.iload 4, 2) := dk_21 4 (dk_at dksX8_look_10 5 rfl rfl)
theorem dX8_look_244 : decode cX8_look 244 = .ok (.if_icmp .lt 6, 3) := dk_161 0 6 (dk_at dksX8_look_10 7 rfl rfl)
theorem dX8_look_247 : decode cX8_look 247 = .ok (.goto 10, 3) := dk_167 0 10 (dk_at dksX8_look_10 10 rfl rfl)
theorem dX8_look_250 : decode cX8_look 250 = .ok (.iload 5, 2) := dk_21 5 (dk_at dksX8_look_10 13 rfl rfl)
theorem dX8_look_252 : decode cX8_look 252 = .ok (.istore_n 3, 1) := dk_62 (dk_at dksX8_look_10 15 rfl rfl)
theorem dX8_look_253 : decode cX8_look 253 = .ok (.iload 6, 2) := dk_21 6 (dk_at dksX8_look_10 16 rfl rfl)
theorem dX8_look_255 : decode cX8_look 255 = .ok (.istore 4, 2) := dk_54 4 (dk_at dksX8_look_10 18 rfl rfl)
theorem dX8_look_257 : decode cX8_look 257 = .ok (.iinc 5 1, 3) := dk_132 5 1 (dk_at dksX8_look_10 20 rfl rfl)
theorem dX8_look_260 : decode cX8_look 260 = .ok (.goto (-80), 3) := dk_167 255 176 (dk_at dksX8_look_11 0 rfl rfl)
theorem dX8_look_263 : decode cX8_look 263 = .ok (.iload_n 2, 1) := dk_28 (dk_at dksX8_look_11 3 rfl rfl)
theorem dX8_look_264 : decode cX8_look 264 = .ok (.ifCond .ne 7, 3) := dk_154 0 7 (dk_at dksX8_look_11 4 rfl rfl)
theorem dX8_look_267 : decode cX8_look 267 = .ok (.iload_n 3, 1) := dk_29 (dk_at dksX8_look_11 7 rfl rfl)
theorem dX8_look_268 : decode cX8_look 268 = .ok (.goto 5, 3) := dk_167 0 5 (dk_at dksX8_look_11 8 rfl rfl)
theorem dX8_look_271 : decode cX8_look 271 = .ok (.iload 4, 2) := dk_21 4 (dk_at dksX8_look_11 11 rfl rfl)
theorem dX8_look_273 : decode cX8_look 273 = .ok (.ireturn, 1) := dk_172 (dk_at dksX8_look_11 13 rfl rfl)
abbrev cX8_isTold : ByteArray := prog_30_method_86_code
def yX8_isTold : MethodName := ⟨RX8, "isTold", "(I)Z"⟩
def dkwX8_isTold_1 : List UInt8 := [132, 2, 1, 167, 255, 231, 3, 172]
abbrev dktX8_isTold_1 : List UInt8 := dkwX8_isTold_1 ++ []
def dkwX8_isTold_0 : List UInt8 := [3, 61, 28, 42, 180, 0, 209, 162, 0, 23, 42, 180, 0, 58, 28, 50, 3, 46, 27, 160, 0, 5, 4, 172]
abbrev dktX8_isTold_0 : List UInt8 := dkwX8_isTold_0 ++ dktX8_isTold_1
theorem dksX8_isTold_0 : cX8_isTold.data.toList.drop 0 = dktX8_isTold_0 := by decide +kernel
theorem dksX8_isTold_1 : cX8_isTold.data.toList.drop 24 = dktX8_isTold_1 := dk_seg dksX8_isTold_0 24 rfl rfl
theorem dX8_isTold_0 : decode cX8_isTold 0 = .ok (.iconst 0, 1) := dk_3 (dk_at dksX8_isTold_0 0 rfl rfl)
theorem dX8_isTold_1 : decode cX8_isTold 1 = .ok (.istore_n 2, 1) := dk_61 (dk_at dksX8_isTold_0 1 rfl rfl)
theorem dX8_isTold_2 : decode cX8_isTold 2 = .ok (.iload_n 2, 1) := dk_28 (dk_at dksX8_isTold_0 2 rfl rfl)
theorem dX8_isTold_3 : decode cX8_isTold 3 = .ok (.aload_n 0, 1) := dk_42 (dk_at dksX8_isTold_0 3 rfl rfl)
theorem dX8_isTold_4 : decode cX8_isTold 4 = .ok (.getfield 209, 3) := dk_180 0 209 (dk_at dksX8_isTold_0 4 rfl rfl)
theorem dX8_isTold_7 : decode cX8_isTold 7 = .ok (.if_icmp .ge 23, 3) := dk_162 0 23 (dk_at dksX8_isTold_0 7 rfl rfl)
theorem dX8_isTold_10 : decode cX8_isTold 10 = .ok (.aload_n 0, 1) := dk_42 (dk_at dksX8_isTold_0 10 rfl rfl)
theorem dX8_isTold_11 : decode cX8_isTold 11 = .ok (.getfield 58, 3) := dk_180 0 58 (dk_at dksX8_isTold_0 11 rfl rfl)
theorem dX8_isTold_14 : decode cX8_isTold 14 = .ok (.iload_n 2, 1) := dk_28 (dk_at dksX8_isTold_0 14 rfl rfl)
theorem dX8_isTold_15 : decode cX8_isTold 15 = .ok (.aaload, 1) := dk_50 (dk_at dksX8_isTold_0 15 rfl rfl)
theorem dX8_isTold_16 : decode cX8_isTold 16 = .ok (.iconst 0, 1) := dk_3 (dk_at dksX8_isTold_0 16 rfl rfl)
theorem dX8_isTold_17 : decode cX8_isTold 17 = .ok (.iaload, 1) := dk_46 (dk_at dksX8_isTold_0 17 rfl rfl)
theorem dX8_isTold_18 : decode cX8_isTold 18 = .ok (.iload_n 1, 1) := dk_27 (dk_at dksX8_isTold_0 18 rfl rfl)
theorem dX8_isTold_19 : decode cX8_isTold 19 = .ok (.if_icmp .ne 5, 3) := dk_160 0 5 (dk_at dksX8_isTold_0 19 rfl rfl)
theorem dX8_isTold_22 : decode cX8_isTold 22 = .ok (.iconst 1, 1) := dk_4 (dk_at dksX8_isTold_0 22 rfl rfl)
theorem dX8_isTold_23 : decode cX8_isTold 23 = .ok (.ireturn, 1) := dk_172 (dk_at dksX8_isTold_0 23 rfl rfl)
theorem dX8_isTold_24 : decode cX8_isTold 24 = .ok (.iinc 2 1, 3) := dk_132 2 1 (dk_at dksX8_isTold_1 0 rfl rfl)
theorem dX8_isTold_27 : decode cX8_isTold 27 = .ok (.goto (-25), 3) := dk_167 255 231 (dk_at dksX8_isTold_1 3 rfl rfl)
theorem dX8_isTold_30 : decode cX8_isTold 30 = .ok (.iconst 0, 1) := dk_3 (dk_at dksX8_isTold_1 6 rfl rfl)
theorem dX8_isTold_31 : decode cX8_isTold 31 = .ok (.ireturn, 1) := dk_172 (dk_at dksX8_isTold_1 7 rfl rfl)
abbrev cX8_way : ByteArray := prog_30_method_88_code
def yX8_way : MethodName := ⟨RX8, "way", "(II)I"⟩
def dkwX8_way_8 : List UInt8 := [46, 172]
abbrev dktX8_way_8 : List UInt8 := dkwX8_way_8 ++ []
def dkwX8_way_7 : List UInt8 := [79, 132, 5, 1, 167, 255, 189, 132, 4, 1, 167, 255, 169, 132, 3, 1, 167, 255, 150, 42, 180, 0, 97, 28]
abbrev dktX8_way_7 : List UInt8 := dkwX8_way_7 ++ dktX8_way_8
def dkwX8_way_6 : List UInt8 := [42, 21, 4, 21, 5, 182, 1, 12, 153, 0, 9, 29, 4, 96, 167, 0, 10, 42, 180, 0, 97, 21, 4, 46]
abbrev dktX8_way_6 : List UInt8 := dkwX8_way_6 ++ dktX8_way_7
def dkwX8_way_5 : List UInt8 := [21, 4, 42, 180, 0, 97, 21, 4, 46, 2, 160, 0, 31, 42, 180, 0, 97, 21, 5, 46, 29, 160, 0, 20]
abbrev dktX8_way_5 : List UInt8 := dkwX8_way_5 ++ dktX8_way_6
def dkwX8_way_4 : List UInt8 := [3, 46, 162, 0, 82, 3, 54, 5, 21, 5, 42, 180, 0, 23, 3, 46, 162, 0, 62, 42, 180, 0, 97]
abbrev dktX8_way_4 : List UInt8 := dkwX8_way_4 ++ dktX8_way_5
def dkwX8_way_3 : List UInt8 := [167, 255, 227, 3, 62, 29, 42, 180, 0, 23, 3, 46, 162, 0, 102, 3, 54, 4, 21, 4, 42, 180, 0, 23]
abbrev dktX8_way_3 : List UInt8 := dkwX8_way_3 ++ dktX8_way_4
def dkwX8_way_2 : List UInt8 := [162, 0, 25, 42, 180, 0, 97, 29, 29, 27, 160, 0, 7, 3, 167, 0, 4, 2, 79, 132, 3, 1]
abbrev dktX8_way_2 : List UInt8 := dkwX8_way_2 ++ dktX8_way_3
def dkwX8_way_1 : List UInt8 := [167, 0, 4, 3, 4, 3, 182, 0, 189, 153, 0, 5, 3, 172, 3, 62, 29, 42, 180, 0, 23, 3, 46]
abbrev dktX8_way_1 : List UInt8 := dkwX8_way_1 ++ dktX8_way_2
def dkwX8_way_0 : List UInt8 := [42, 3, 181, 0, 106, 42, 42, 27, 182, 1, 83, 153, 0, 11, 42, 28, 182, 1, 83, 154, 0, 7, 4]
abbrev dktX8_way_0 : List UInt8 := dkwX8_way_0 ++ dktX8_way_1
theorem dksX8_way_0 : cX8_way.data.toList.drop 0 = dktX8_way_0 := by decide +kernel
theorem dksX8_way_1 : cX8_way.data.toList.drop 23 = dktX8_way_1 := dk_seg dksX8_way_0 23 rfl rfl
theorem dksX8_way_2 : cX8_way.data.toList.drop 46 = dktX8_way_2 := dk_seg dksX8_way_1 23 rfl rfl
theorem dksX8_way_3 : cX8_way.data.toList.drop 68 = dktX8_way_3 := dk_seg dksX8_way_2 22 rfl rfl
theorem dksX8_way_4 : cX8_way.data.toList.drop 92 = dktX8_way_4 := dk_seg dksX8_way_3 24 rfl rfl
theorem dksX8_way_5 : cX8_way.data.toList.drop 115 = dktX8_way_5 := dk_seg dksX8_way_4 23 rfl rfl
theorem dksX8_way_6 : cX8_way.data.toList.drop 139 = dktX8_way_6 := dk_seg dksX8_way_5 24 rfl rfl
theorem dksX8_way_7 : cX8_way.data.toList.drop 163 = dktX8_way_7 := dk_seg dksX8_way_6 24 rfl rfl
theorem dksX8_way_8 : cX8_way.data.toList.drop 187 = dktX8_way_8 := dk_seg dksX8_way_7 24 rfl rfl
theorem dX8_way_0 : decode cX8_way 0 = .ok (.aload_n 0, 1) := dk_42 (dk_at dksX8_way_0 0 rfl rfl)
theorem dX8_way_1 : decode cX8_way 1 = .ok (.iconst 0, 1) := dk_3 (dk_at dksX8_way_0 1 rfl rfl)
theorem dX8_way_2 : decode cX8_way 2 = .ok (.putfield 106, 3) := dk_181 0 106 (dk_at dksX8_way_0 2 rfl rfl)
theorem dX8_way_5 : decode cX8_way 5 = .ok (.aload_n 0, 1) := dk_42 (dk_at dksX8_way_0 5 rfl rfl)
theorem dX8_way_6 : decode cX8_way 6 = .ok (.aload_n 0, 1) := dk_42 (dk_at dksX8_way_0 6 rfl rfl)
theorem dX8_way_7 : decode cX8_way 7 = .ok (.iload_n 1, 1) := dk_27 (dk_at dksX8_way_0 7 rfl rfl)
theorem dX8_way_8 : decode cX8_way 8 = .ok (.invokevirtual 339, 3) := dk_182 1 83 (dk_at dksX8_way_0 8 rfl rfl)
theorem dX8_way_11 : decode cX8_way 11 = .ok (.ifCond .eq 11, 3) := dk_153 0 11 (dk_at dksX8_way_0 11 rfl rfl)
theorem dX8_way_14 : decode cX8_way 14 = .ok (.aload_n 0, 1) := dk_42 (dk_at dksX8_way_0 14 rfl rfl)
theorem dX8_way_15 : decode cX8_way 15 = .ok (.iload_n 2, 1) := dk_28 (dk_at dksX8_way_0 15 rfl rfl)
theorem dX8_way_16 : decode cX8_way 16 = .ok (.invokevirtual 339, 3) := dk_182 1 83 (dk_at dksX8_way_0 16 rfl rfl)
theorem dX8_way_19 : decode cX8_way 19 = .ok (.ifCond .ne 7, 3) := dk_154 0 7 (dk_at dksX8_way_0 19 rfl rfl)
theorem dX8_way_22 : decode cX8_way 22 = .ok (.iconst 1, 1) := dk_4 (dk_at dksX8_way_0 22 rfl rfl)
theorem dX8_way_23 : decode cX8_way 23 = .ok (.goto 4, 3) := dk_167 0 4 (dk_at dksX8_way_1 0 rfl rfl)
theorem dX8_way_26 : decode cX8_way 26 = .ok (.iconst 0, 1) := dk_3 (dk_at dksX8_way_1 3 rfl rfl)
theorem dX8_way_27 : decode cX8_way 27 = .ok (.iconst 1, 1) := dk_4 (dk_at dksX8_way_1 4 rfl rfl)
theorem dX8_way_28 : decode cX8_way 28 = .ok (.iconst 0, 1) := dk_3 (dk_at dksX8_way_1 5 rfl rfl)
theorem dX8_way_29 : decode cX8_way 29 = .ok (.invokevirtual 189, 3) := dk_182 0 189 (dk_at dksX8_way_1 6 rfl rfl)
theorem dX8_way_32 : decode cX8_way 32 = .ok (.ifCond .eq 5, 3) := dk_153 0 5 (dk_at dksX8_way_1 9 rfl rfl)
theorem dX8_way_35 : decode cX8_way 35 = .ok (.iconst 0, 1) := dk_3 (dk_at dksX8_way_1 12 rfl rfl)
theorem dX8_way_36 : decode cX8_way 36 = .ok (.ireturn, 1) := dk_172 (dk_at dksX8_way_1 13 rfl rfl)
theorem dX8_way_37 : decode cX8_way 37 = .ok (.iconst 0, 1) := dk_3 (dk_at dksX8_way_1 14 rfl rfl)
theorem dX8_way_38 : decode cX8_way 38 = .ok (.istore_n 3, 1) := dk_62 (dk_at dksX8_way_1 15 rfl rfl)
theorem dX8_way_39 : decode cX8_way 39 = .ok (.iload_n 3, 1) := dk_29 (dk_at dksX8_way_1 16 rfl rfl)
theorem dX8_way_40 : decode cX8_way 40 = .ok (.aload_n 0, 1) := dk_42 (dk_at dksX8_way_1 17 rfl rfl)
theorem dX8_way_41 : decode cX8_way 41 = .ok (.getfield 23, 3) := dk_180 0 23 (dk_at dksX8_way_1 18 rfl rfl)
theorem dX8_way_44 : decode cX8_way 44 = .ok (.iconst 0, 1) := dk_3 (dk_at dksX8_way_1 21 rfl rfl)
theorem dX8_way_45 : decode cX8_way 45 = .ok (.iaload, 1) := dk_46 (dk_at dksX8_way_1 22 rfl rfl)
theorem dX8_way_46 : decode cX8_way 46 = .ok (.if_icmp .ge 25, 3) := dk_162 0 25 (dk_at dksX8_way_2 0 rfl rfl)
theorem dX8_way_49 : decode cX8_way 49 = .ok (.aload_n 0, 1) := dk_42 (dk_at dksX8_way_2 3 rfl rfl)
theorem dX8_way_50 : decode cX8_way 50 = .ok (.getfield 97, 3) := dk_180 0 97 (dk_at dksX8_way_2 4 rfl rfl)
theorem dX8_way_53 : decode cX8_way 53 = .ok (.iload_n 3, 1) := dk_29 (dk_at dksX8_way_2 7 rfl rfl)
theorem dX8_way_54 : decode cX8_way 54 = .ok (.iload_n 3, 1) := dk_29 (dk_at dksX8_way_2 8 rfl rfl)
theorem dX8_way_55 : decode cX8_way 55 = .ok (.iload_n 1, 1) := dk_27 (dk_at dksX8_way_2 9 rfl rfl)
theorem dX8_way_56 : decode cX8_way 56 = .ok (.if_icmp .ne 7, 3) := dk_160 0 7 (dk_at dksX8_way_2 10 rfl rfl)
theorem dX8_way_59 : decode cX8_way 59 = .ok (.iconst 0, 1) := dk_3 (dk_at dksX8_way_2 13 rfl rfl)
theorem dX8_way_60 : decode cX8_way 60 = .ok (.goto 4, 3) := dk_167 0 4 (dk_at dksX8_way_2 14 rfl rfl)
theorem dX8_way_63 : decode cX8_way 63 = .ok (.iconst (-1), 1) := dk_2 (dk_at dksX8_way_2 17 rfl rfl)
theorem dX8_way_64 : decode cX8_way 64 = .ok (.iastore, 1) := dk_79 (dk_at dksX8_way_2 18 rfl rfl)
theorem dX8_way_65 : decode cX8_way 65 = .ok (.iinc 3 1, 3) := dk_132 3 1 (dk_at dksX8_way_2 19 rfl rfl)
theorem dX8_way_68 : decode cX8_way 68 = .ok (.goto (-29), 3) := dk_167 255 227 (dk_at dksX8_way_3 0 rfl rfl)
theorem dX8_way_71 : decode cX8_way 71 = .ok (.iconst 0, 1) := dk_3 (dk_at dksX8_way_3 3 rfl rfl)
theorem dX8_way_72 : decode cX8_way 72 = .ok (.istore_n 3, 1) := dk_62 (dk_at dksX8_way_3 4 rfl rfl)
theorem dX8_way_73 : decode cX8_way 73 = .ok (.iload_n 3, 1) := dk_29 (dk_at dksX8_way_3 5 rfl rfl)
theorem dX8_way_74 : decode cX8_way 74 = .ok (.aload_n 0, 1) := dk_42 (dk_at dksX8_way_3 6 rfl rfl)
theorem dX8_way_75 : decode cX8_way 75 = .ok (.getfield 23, 3) := dk_180 0 23 (dk_at dksX8_way_3 7 rfl rfl)
theorem dX8_way_78 : decode cX8_way 78 = .ok (.iconst 0, 1) := dk_3 (dk_at dksX8_way_3 10 rfl rfl)
theorem dX8_way_79 : decode cX8_way 79 = .ok (.iaload, 1) := dk_46 (dk_at dksX8_way_3 11 rfl rfl)
theorem dX8_way_80 : decode cX8_way 80 = .ok (.if_icmp .ge 102, 3) := dk_162 0 102 (dk_at dksX8_way_3 12 rfl rfl)
theorem dX8_way_83 : decode cX8_way 83 = .ok (.iconst 0, 1) := dk_3 (dk_at dksX8_way_3 15 rfl rfl)
theorem dX8_way_84 : decode cX8_way 84 = .ok (.istore 4, 2) := dk_54 4 (dk_at dksX8_way_3 16 rfl rfl)
theorem dX8_way_86 : decode cX8_way 86 = .ok (.iload 4, 2) := dk_21 4 (dk_at dksX8_way_3 18 rfl rfl)
theorem dX8_way_88 : decode cX8_way 88 = .ok (.aload_n 0, 1) := dk_42 (dk_at dksX8_way_3 20 rfl rfl)
theorem dX8_way_89 : decode cX8_way 89 = .ok (.getfield 23, 3) := dk_180 0 23 (dk_at dksX8_way_3 21 rfl rfl)
theorem dX8_way_92 : decode cX8_way 92 = .ok (.iconst 0, 1) := dk_3 (dk_at dksX8_way_4 0 rfl rfl)
theorem dX8_way_93 : decode cX8_way 93 = .ok (.iaload, 1) := dk_46 (dk_at dksX8_way_4 1 rfl rfl)
theorem dX8_way_94 : decode cX8_way 94 = .ok (.if_icmp .ge 82, 3) := dk_162 0 82 (dk_at dksX8_way_4 2 rfl rfl)
theorem dX8_way_97 : decode cX8_way 97 = .ok (.iconst 0, 1) := dk_3 (dk_at dksX8_way_4 5 rfl rfl)
theorem dX8_way_98 : decode cX8_way 98 = .ok (.istore 5, 2) := dk_54 5 (dk_at dksX8_way_4 6 rfl rfl)
theorem dX8_way_100 : decode cX8_way 100 = .ok (.iload 5, 2) := dk_21 5 (dk_at dksX8_way_4 8 rfl rfl)
theorem dX8_way_102 : decode cX8_way 102 = .ok (.aload_n 0, 1) := dk_42 (dk_at dksX8_way_4 10 rfl rfl)
theorem dX8_way_103 : decode cX8_way 103 = .ok (.getfield 23, 3) := dk_180 0 23 (dk_at dksX8_way_4 11 rfl rfl)
theorem dX8_way_106 : decode cX8_way 106 = .ok (.iconst 0, 1) := dk_3 (dk_at dksX8_way_4 14 rfl rfl)
theorem dX8_way_107 : decode cX8_way 107 = .ok (.iaload, 1) := dk_46 (dk_at dksX8_way_4 15 rfl rfl)
theorem dX8_way_108 : decode cX8_way 108 = .ok (.if_icmp .ge 62, 3) := dk_162 0 62 (dk_at dksX8_way_4 16 rfl rfl)
theorem dX8_way_111 : decode cX8_way 111 = .ok (.aload_n 0, 1) := dk_42 (dk_at dksX8_way_4 19 rfl rfl)
theorem dX8_way_112 : decode cX8_way 112 = .ok (.getfield 97, 3) := dk_180 0 97 (dk_at dksX8_way_4 20 rfl rfl)
theorem dX8_way_115 : decode cX8_way 115 = .ok (.iload 4, 2) := dk_21 4 (dk_at dksX8_way_5 0 rfl rfl)
theorem dX8_way_117 : decode cX8_way 117 = .ok (.aload_n 0, 1) := dk_42 (dk_at dksX8_way_5 2 rfl rfl)
theorem dX8_way_118 : decode cX8_way 118 = .ok (.getfield 97, 3) := dk_180 0 97 (dk_at dksX8_way_5 3 rfl rfl)
theorem dX8_way_121 : decode cX8_way 121 = .ok (.iload 4, 2) := dk_21 4 (dk_at dksX8_way_5 6 rfl rfl)
theorem dX8_way_123 : decode cX8_way 123 = .ok (.iaload, 1) := dk_46 (dk_at dksX8_way_5 8 rfl rfl)
theorem dX8_way_124 : decode cX8_way 124 = .ok (.iconst (-1), 1) := dk_2 (dk_at dksX8_way_5 9 rfl rfl)
theorem dX8_way_125 : decode cX8_way 125 = .ok (.if_icmp .ne 31, 3) := dk_160 0 31 (dk_at dksX8_way_5 10 rfl rfl)
theorem dX8_way_128 : decode cX8_way 128 = .ok (.aload_n 0, 1) := dk_42 (dk_at dksX8_way_5 13 rfl rfl)
theorem dX8_way_129 : decode cX8_way 129 = .ok (.getfield 97, 3) := dk_180 0 97 (dk_at dksX8_way_5 14 rfl rfl)
theorem dX8_way_132 : decode cX8_way 132 = .ok (.iload 5, 2) := dk_21 5 (dk_at dksX8_way_5 17 rfl rfl)
theorem dX8_way_134 : decode cX8_way 134 = .ok (.iaload, 1) := dk_46 (dk_at dksX8_way_5 19 rfl rfl)
theorem dX8_way_135 : decode cX8_way 135 = .ok (.iload_n 3, 1) := dk_29 (dk_at dksX8_way_5 20 rfl rfl)
theorem dX8_way_136 : decode cX8_way 136 = .ok (.if_icmp .ne 20, 3) := dk_160 0 20 (dk_at dksX8_way_5 21 rfl rfl)
theorem dX8_way_139 : decode cX8_way 139 = .ok (.aload_n 0, 1) := dk_42 (dk_at dksX8_way_6 0 rfl rfl)
theorem dX8_way_140 : decode cX8_way 140 = .ok (.iload 4, 2) := dk_21 4 (dk_at dksX8_way_6 1 rfl rfl)
theorem dX8_way_142 : decode cX8_way 142 = .ok (.iload 5, 2) := dk_21 5 (dk_at dksX8_way_6 3 rfl rfl)
theorem dX8_way_144 : decode cX8_way 144 = .ok (.invokevirtual 268, 3) := dk_182 1 12 (dk_at dksX8_way_6 5 rfl rfl)
theorem dX8_way_147 : decode cX8_way 147 = .ok (.ifCond .eq 9, 3) := dk_153 0 9 (dk_at dksX8_way_6 8 rfl rfl)
theorem dX8_way_150 : decode cX8_way 150 = .ok (.iload_n 3, 1) := dk_29 (dk_at dksX8_way_6 11 rfl rfl)
theorem dX8_way_151 : decode cX8_way 151 = .ok (.iconst 1, 1) := dk_4 (dk_at dksX8_way_6 12 rfl rfl)
theorem dX8_way_152 : decode cX8_way 152 = .ok (.iadd, 1) := dk_96 (dk_at dksX8_way_6 13 rfl rfl)
theorem dX8_way_153 : decode cX8_way 153 = .ok (.goto 10, 3) := dk_167 0 10 (dk_at dksX8_way_6 14 rfl rfl)
theorem dX8_way_156 : decode cX8_way 156 = .ok (.aload_n 0, 1) := dk_42 (dk_at dksX8_way_6 17 rfl rfl)
theorem dX8_way_157 : decode cX8_way 157 = .ok (.getfield 97, 3) := dk_180 0 97 (dk_at dksX8_way_6 18 rfl rfl)
theorem dX8_way_160 : decode cX8_way 160 = .ok (.iload 4, 2) := dk_21 4 (dk_at dksX8_way_6 21 rfl rfl)
theorem dX8_way_162 : decode cX8_way 162 = .ok (.iaload, 1) := dk_46 (dk_at dksX8_way_6 23 rfl rfl)
theorem dX8_way_163 : decode cX8_way 163 = .ok (.iastore, 1) := dk_79 (dk_at dksX8_way_7 0 rfl rfl)
theorem dX8_way_164 : decode cX8_way 164 = .ok (.iinc 5 1, 3) := dk_132 5 1 (dk_at dksX8_way_7 1 rfl rfl)
theorem dX8_way_167 : decode cX8_way 167 = .ok (.goto (-67), 3) := dk_167 255 189 (dk_at dksX8_way_7 4 rfl rfl)
theorem dX8_way_170 : decode cX8_way 170 = .ok (.iinc 4 1, 3) := dk_132 4 1 (dk_at dksX8_way_7 7 rfl rfl)
theorem dX8_way_173 : decode cX8_way 173 = .ok (.goto (-87), 3) := dk_167 255 169 (dk_at dksX8_way_7 10 rfl rfl)
theorem dX8_way_176 : decode cX8_way 176 = .ok (.iinc 3 1, 3) := dk_132 3 1 (dk_at dksX8_way_7 13 rfl rfl)
theorem dX8_way_179 : decode cX8_way 179 = .ok (.goto (-106), 3) := dk_167 255 150 (dk_at dksX8_way_7 16 rfl rfl)
theorem dX8_way_182 : decode cX8_way 182 = .ok (.aload_n 0, 1) := dk_42 (dk_at dksX8_way_7 19 rfl rfl)
theorem dX8_way_183 : decode cX8_way 183 = .ok (.getfield 97, 3) := dk_180 0 97 (dk_at dksX8_way_7 20 rfl rfl)
theorem dX8_way_186 : decode cX8_way 186 = .ok (.iload_n 2, 1) := dk_28 (dk_at dksX8_way_7 23 rfl rfl)
theorem dX8_way_187 : decode cX8_way 187 = .ok (.iaload, 1) := dk_46 (dk_at dksX8_way_8 0 rfl rfl)
theorem dX8_way_188 : decode cX8_way 188 = .ok (.ireturn, 1) := dk_172 (dk_at dksX8_way_8 1 rfl rfl)
abbrev cX8_alone : ByteArray := prog_30_method_90_code
def yX8_alone : MethodName := ⟨RX8, "alone", "()I"⟩
def dkwX8_alone_5 : List UInt8 := [167, 255, 152, 27, 172]
abbrev dktX8_alone_5 : List UInt8 := dkwX8_alone_5 ++ []
def dkwX8_alone_4 : List UInt8 := [167, 0, 4, 3, 62, 132, 4, 1, 167, 255, 200, 29, 153, 0, 7, 28, 167, 0, 4, 27, 60, 132, 2, 1]
abbrev dktX8_alone_4 : List UInt8 := dkwX8_alone_4 ++ dktX8_alone_5
def dkwX8_alone_3 : List UInt8 := [184, 1, 114, 153, 0, 19, 28, 42, 180, 0, 43, 21, 4, 50, 4, 46, 184, 1, 114, 154, 0, 7, 4]
abbrev dktX8_alone_3 : List UInt8 := dkwX8_alone_3 ++ dktX8_alone_4
def dkwX8_alone_2 : List UInt8 := [180, 0, 23, 4, 46, 162, 0, 51, 29, 153, 0, 47, 28, 42, 180, 0, 43, 21, 4, 50, 3, 46]
abbrev dktX8_alone_2 : List UInt8 := dkwX8_alone_2 ++ dktX8_alone_3
def dkwX8_alone_1 : List UInt8 := [184, 1, 111, 27, 184, 1, 111, 164, 0, 7, 4, 167, 0, 4, 3, 62, 3, 54, 4, 21, 4, 42]
abbrev dktX8_alone_1 : List UInt8 := dkwX8_alone_1 ++ dktX8_alone_2
def dkwX8_alone_0 : List UInt8 := [42, 3, 181, 0, 106, 3, 60, 3, 61, 28, 4, 42, 180, 0, 23, 3, 46, 120, 162, 0, 98, 28]
abbrev dktX8_alone_0 : List UInt8 := dkwX8_alone_0 ++ dktX8_alone_1
theorem dksX8_alone_0 : cX8_alone.data.toList.drop 0 = dktX8_alone_0 := by decide +kernel
theorem dksX8_alone_1 : cX8_alone.data.toList.drop 22 = dktX8_alone_1 := dk_seg dksX8_alone_0 22 rfl rfl
theorem dksX8_alone_2 : cX8_alone.data.toList.drop 44 = dktX8_alone_2 := dk_seg dksX8_alone_1 22 rfl rfl
theorem dksX8_alone_3 : cX8_alone.data.toList.drop 66 = dktX8_alone_3 := dk_seg dksX8_alone_2 22 rfl rfl
theorem dksX8_alone_4 : cX8_alone.data.toList.drop 89 = dktX8_alone_4 := dk_seg dksX8_alone_3 23 rfl rfl
theorem dksX8_alone_5 : cX8_alone.data.toList.drop 113 = dktX8_alone_5 := dk_seg dksX8_alone_4 24 rfl rfl
theorem dX8_alone_0 : decode cX8_alone 0 = .ok (.aload_n 0, 1) := dk_42 (dk_at dksX8_alone_0 0 rfl rfl)
theorem dX8_alone_1 : decode cX8_alone 1 = .ok (.iconst 0, 1) := dk_3 (dk_at dksX8_alone_0 1 rfl rfl)
theorem dX8_alone_2 : decode cX8_alone 2 = .ok (.putfield 106, 3) := dk_181 0 106 (dk_at dksX8_alone_0 2 rfl rfl)
theorem dX8_alone_5 : decode cX8_alone 5 = .ok (.iconst 0, 1) := dk_3 (dk_at dksX8_alone_0 5 rfl rfl)
theorem dX8_alone_6 : decode cX8_alone 6 = .ok (.istore_n 1, 1) := dk_60 (dk_at dksX8_alone_0 6 rfl rfl)
theorem dX8_alone_7 : decode cX8_alone 7 = .ok (.iconst 0, 1) := dk_3 (dk_at dksX8_alone_0 7 rfl rfl)
theorem dX8_alone_8 : decode cX8_alone 8 = .ok (.istore_n 2, 1) := dk_61 (dk_at dksX8_alone_0 8 rfl rfl)
theorem dX8_alone_9 : decode cX8_alone 9 = .ok (.iload_n 2, 1) := dk_28 (dk_at dksX8_alone_0 9 rfl rfl)
theorem dX8_alone_10 : decode cX8_alone 10 = .ok (.iconst 1, 1) := dk_4 (dk_at dksX8_alone_0 10 rfl rfl)
theorem dX8_alone_11 : decode cX8_alone 11 = .ok (.aload_n 0, 1) := dk_42 (dk_at dksX8_alone_0 11 rfl rfl)
theorem dX8_alone_12 : decode cX8_alone 12 = .ok (.getfield 23, 3) := dk_180 0 23 (dk_at dksX8_alone_0 12 rfl rfl)
theorem dX8_alone_15 : decode cX8_alone 15 = .ok (.iconst 0, 1) := dk_3 (dk_at dksX8_alone_0 15 rfl rfl)
theorem dX8_alone_16 : decode cX8_alone 16 = .ok (.iaload, 1) := dk_46 (dk_at dksX8_alone_0 16 rfl rfl)
theorem dX8_alone_17 : decode cX8_alone 17 = .ok (.ishl, 1) := dk_120 (dk_at dksX8_alone_0 17 rfl rfl)
theorem dX8_alone_18 : decode cX8_alone 18 = .ok (.if_icmp .ge 98, 3) := dk_162 0 98 (dk_at dksX8_alone_0 18 rfl rfl)
theorem dX8_alone_21 : decode cX8_alone 21 = .ok (.iload_n 2, 1) := dk_28 (dk_at dksX8_alone_0 21 rfl rfl)
theorem dX8_alone_22 : decode cX8_alone 22 = .ok (.invokestatic 367, 3) := dk_184 1 111 (dk_at dksX8_alone_1 0 rfl rfl)
theorem dX8_alone_25 : decode cX8_alone 25 = .ok (.iload_n 1, 1) := dk_27 (dk_at dksX8_alone_1 3 rfl rfl)
theorem dX8_alone_26 : decode cX8_alone 26 = .ok (.invokestatic 367, 3) := dk_184 1 111 (dk_at dksX8_alone_1 4 rfl rfl)
theorem dX8_alone_29 : decode cX8_alone 29 = .ok (.if_icmp .le 7, 3) := dk_164 0 7 (dk_at dksX8_alone_1 7 rfl rfl)
theorem dX8_alone_32 : decode cX8_alone 32 = .ok (.iconst 1, 1) := dk_4 (dk_at dksX8_alone_1 10 rfl rfl)
theorem dX8_alone_33 : decode cX8_alone 33 = .ok (.goto 4, 3) := dk_167 0 4 (dk_at dksX8_alone_1 11 rfl rfl)
theorem dX8_alone_36 : decode cX8_alone 36 = .ok (.iconst 0, 1) := dk_3 (dk_at dksX8_alone_1 14 rfl rfl)
theorem dX8_alone_37 : decode cX8_alone 37 = .ok (.istore_n 3, 1) := dk_62 (dk_at dksX8_alone_1 15 rfl rfl)
theorem dX8_alone_38 : decode cX8_alone 38 = .ok (.iconst 0, 1) := dk_3 (dk_at dksX8_alone_1 16 rfl rfl)
theorem dX8_alone_39 : decode cX8_alone 39 = .ok (.istore 4, 2) := dk_54 4 (dk_at dksX8_alone_1 17 rfl rfl)
theorem dX8_alone_41 : decode cX8_alone 41 = .ok (.iload 4, 2) := dk_21 4 (dk_at dksX8_alone_1 19 rfl rfl)
theorem dX8_alone_43 : decode cX8_alone 43 = .ok (.aload_n 0, 1) := dk_42 (dk_at dksX8_alone_1 21 rfl rfl)
theorem dX8_alone_44 : decode cX8_alone 44 = .ok (.getfield 23, 3) := dk_180 0 23 (dk_at dksX8_alone_2 0 rfl rfl)
theorem dX8_alone_47 : decode cX8_alone 47 = .ok (.iconst 1, 1) := dk_4 (dk_at dksX8_alone_2 3 rfl rfl)
theorem dX8_alone_48 : decode cX8_alone 48 = .ok (.iaload, 1) := dk_46 (dk_at dksX8_alone_2 4 rfl rfl)
theorem dX8_alone_49 : decode cX8_alone 49 = .ok (.if_icmp .ge 51, 3) := dk_162 0 51 (dk_at dksX8_alone_2 5 rfl rfl)
theorem dX8_alone_52 : decode cX8_alone 52 = .ok (.iload_n 3, 1) := dk_29 (dk_at dksX8_alone_2 8 rfl rfl)
theorem dX8_alone_53 : decode cX8_alone 53 = .ok (.ifCond .eq 47, 3) := dk_153 0 47 (dk_at dksX8_alone_2 9 rfl rfl)
theorem dX8_alone_56 : decode cX8_alone 56 = .ok (.iload_n 2, 1) := dk_28 (dk_at dksX8_alone_2 12 rfl rfl)
theorem dX8_alone_57 : decode cX8_alone 57 = .ok (.aload_n 0, 1) := dk_42 (dk_at dksX8_alone_2 13 rfl rfl)
theorem dX8_alone_58 : decode cX8_alone 58 = .ok (.getfield 43, 3) := dk_180 0 43 (dk_at dksX8_alone_2 14 rfl rfl)
theorem dX8_alone_61 : decode cX8_alone 61 = .ok (.iload 4, 2) := dk_21 4 (dk_at dksX8_alone_2 17 rfl rfl)
theorem dX8_alone_63 : decode cX8_alone 63 = .ok (.aaload, 1) := dk_50 (dk_at dksX8_alone_2 19 rfl rfl)
theorem dX8_alone_64 : decode cX8_alone 64 = .ok (.iconst 0, 1) := dk_3 (dk_at dksX8_alone_2 20 rfl rfl)
theorem dX8_alone_65 : decode cX8_alone 65 = .ok (.iaload, 1) := dk_46 (dk_at dksX8_alone_2 21 rfl rfl)
theorem dX8_alone_66 : decode cX8_alone 66 = .ok (.invokestatic 370, 3) := dk_184 1 114 (dk_at dksX8_alone_3 0 rfl rfl)
theorem dX8_alone_69 : decode cX8_alone 69 = .ok (.ifCond .eq 19, 3) := dk_153 0 19 (dk_at dksX8_alone_3 3 rfl rfl)
theorem dX8_alone_72 : decode cX8_alone 72 = .ok (.iload_n 2, 1) := dk_28 (dk_at dksX8_alone_3 6 rfl rfl)
theorem dX8_alone_73 : decode cX8_alone 73 = .ok (.aload_n 0, 1) := dk_42 (dk_at dksX8_alone_3 7 rfl rfl)
theorem dX8_alone_74 : decode cX8_alone 74 = .ok (.getfield 43, 3) := dk_180 0 43 (dk_at dksX8_alone_3 8 rfl rfl)
theorem dX8_alone_77 : decode cX8_alone 77 = .ok (.iload 4, 2) := dk_21 4 (dk_at dksX8_alone_3 11 rfl rfl)
theorem dX8_alone_79 : decode cX8_alone 79 = .ok (.aaload, 1) := dk_50 (dk_at dksX8_alone_3 13 rfl rfl)
theorem dX8_alone_80 : decode cX8_alone 80 = .ok (.iconst 1, 1) := dk_4 (dk_at dksX8_alone_3 14 rfl rfl)
theorem dX8_alone_81 : decode cX8_alone 81 = .ok (.iaload, 1) := dk_46 (dk_at dksX8_alone_3 15 rfl rfl)
theorem dX8_alone_82 : decode cX8_alone 82 = .ok (.invokestatic 370, 3) := dk_184 1 114 (dk_at dksX8_alone_3 16 rfl rfl)
theorem dX8_alone_85 : decode cX8_alone 85 = .ok (.ifCond .ne 7, 3) := dk_154 0 7 (dk_at dksX8_alone_3 19 rfl rfl)
theorem dX8_alone_88 : decode cX8_alone 88 = .ok (.iconst 1, 1) := dk_4 (dk_at dksX8_alone_3 22 rfl rfl)
theorem dX8_alone_89 : decode cX8_alone 89 = .ok (.goto 4, 3) := dk_167 0 4 (dk_at dksX8_alone_4 0 rfl rfl)
theorem dX8_alone_92 : decode cX8_alone 92 = .ok (.iconst 0, 1) := dk_3 (dk_at dksX8_alone_4 3 rfl rfl)
theorem dX8_alone_93 : decode cX8_alone 93 = .ok (.istore_n 3, 1) := dk_62 (dk_at dksX8_alone_4 4 rfl rfl)
theorem dX8_alone_94 : decode cX8_alone 94 = .ok (.iinc 4 1, 3) := dk_132 4 1 (dk_at dksX8_alone_4 5 rfl rfl)
theorem dX8_alone_97 : decode cX8_alone 97 = .ok (.goto (-56), 3) := dk_167 255 200 (dk_at dksX8_alone_4 8 rfl rfl)
theorem dX8_alone_100 : decode cX8_alone 100 = .ok (.iload_n 3, 1) := dk_29 (dk_at dksX8_alone_4 11 rfl rfl)
theorem dX8_alone_101 : decode cX8_alone 101 = .ok (.ifCond .eq 7, 3) := dk_153 0 7 (dk_at dksX8_alone_4 12 rfl rfl)
theorem dX8_alone_104 : decode cX8_alone 104 = .ok (.iload_n 2, 1) := dk_28 (dk_at dksX8_alone_4 15 rfl rfl)
theorem dX8_alone_105 : decode cX8_alone 105 = .ok (.goto 4, 3) := dk_167 0 4 (dk_at dksX8_alone_4 16 rfl rfl)
theorem dX8_alone_108 : decode cX8_alone 108 = .ok (.iload_n 1, 1) := dk_27 (dk_at dksX8_alone_4 19 rfl rfl)
theorem dX8_alone_109 : decode cX8_alone 109 = .ok (.istore_n 1, 1) := dk_60 (dk_at dksX8_alone_4 20 rfl rfl)
theorem dX8_alone_110 : decode cX8_alone 110 = .ok (.iinc 2 1, 3) := dk_132 2 1 (dk_at dksX8_alone_4 21 rfl rfl)
theorem dX8_alone_113 : decode cX8_alone 113 = .ok (.goto (-104), 3) := dk_167 255 152 (dk_at dksX8_alone_5 0 rfl rfl)
theorem dX8_alone_116 : decode cX8_alone 116 = .ok (.iload_n 1, 1) := dk_27 (dk_at dksX8_alone_5 3 rfl rfl)
theorem dX8_alone_117 : decode cX8_alone 117 = .ok (.ireturn, 1) := dk_172 (dk_at dksX8_alone_5 4 rfl rfl)
abbrev cX8_ones : ByteArray := prog_30_method_89_code
def yX8_ones : MethodName := ⟨RX8, "ones", "(I)I"⟩
def dkwX8_ones_1 : List UInt8 := [27, 172]
abbrev dktX8_ones_1 : List UInt8 := dkwX8_ones_1 ++ []
def dkwX8_ones_0 : List UInt8 := [3, 60, 3, 61, 28, 16, 8, 162, 0, 17, 27, 26, 28, 122, 4, 126, 96, 60, 132, 2, 1, 167, 255, 239]
abbrev dktX8_ones_0 : List UInt8 := dkwX8_ones_0 ++ dktX8_ones_1
theorem dksX8_ones_0 : cX8_ones.data.toList.drop 0 = dktX8_ones_0 := by decide +kernel
theorem dksX8_ones_1 : cX8_ones.data.toList.drop 24 = dktX8_ones_1 := dk_seg dksX8_ones_0 24 rfl rfl
theorem dX8_ones_0 : decode cX8_ones 0 = .ok (.iconst 0, 1) := dk_3 (dk_at dksX8_ones_0 0 rfl rfl)
theorem dX8_ones_1 : decode cX8_ones 1 = .ok (.istore_n 1, 1) := dk_60 (dk_at dksX8_ones_0 1 rfl rfl)
theorem dX8_ones_2 : decode cX8_ones 2 = .ok (.iconst 0, 1) := dk_3 (dk_at dksX8_ones_0 2 rfl rfl)
theorem dX8_ones_3 : decode cX8_ones 3 = .ok (.istore_n 2, 1) := dk_61 (dk_at dksX8_ones_0 3 rfl rfl)
theorem dX8_ones_4 : decode cX8_ones 4 = .ok (.iload_n 2, 1) := dk_28 (dk_at dksX8_ones_0 4 rfl rfl)
theorem dX8_ones_5 : decode cX8_ones 5 = .ok (.bipush 8, 2) := dk_16 8 (dk_at dksX8_ones_0 5 rfl rfl)
theorem dX8_ones_7 : decode cX8_ones 7 = .ok (.if_icmp .ge 17, 3) := dk_162 0 17 (dk_at dksX8_ones_0 7 rfl rfl)
theorem dX8_ones_10 : decode cX8_ones 10 = .ok (.iload_n 1, 1) := dk_27 (dk_at dksX8_ones_0 10 rfl rfl)
theorem dX8_ones_11 : decode cX8_ones 11 = .ok (.iload_n 0, 1) := dk_26 (dk_at dksX8_ones_0 11 rfl rfl)
theorem dX8_ones_12 : decode cX8_ones 12 = .ok (.iload_n 2, 1) := dk_28 (dk_at dksX8_ones_0 12 rfl rfl)
theorem dX8_ones_13 : decode cX8_ones 13 = .ok (.ishr, 1) := dk_122 (dk_at dksX8_ones_0 13 rfl rfl)
theorem dX8_ones_14 : decode cX8_ones 14 = .ok (.iconst 1, 1) := dk_4 (dk_at dksX8_ones_0 14 rfl rfl)
theorem dX8_ones_15 : decode cX8_ones 15 = .ok (.iand, 1) := dk_126 (dk_at dksX8_ones_0 15 rfl rfl)
theorem dX8_ones_16 : decode cX8_ones 16 = .ok (.iadd, 1) := dk_96 (dk_at dksX8_ones_0 16 rfl rfl)
theorem dX8_ones_17 : decode cX8_ones 17 = .ok (.istore_n 1, 1) := dk_60 (dk_at dksX8_ones_0 17 rfl rfl)
theorem dX8_ones_18 : decode cX8_ones 18 = .ok (.iinc 2 1, 3) := dk_132 2 1 (dk_at dksX8_ones_0 18 rfl rfl)
theorem dX8_ones_21 : decode cX8_ones 21 = .ok (.goto (-17), 3) := dk_167 255 239 (dk_at dksX8_ones_0 21 rfl rfl)
theorem dX8_ones_24 : decode cX8_ones 24 = .ok (.iload_n 1, 1) := dk_27 (dk_at dksX8_ones_1 0 rfl rfl)
theorem dX8_ones_25 : decode cX8_ones 25 = .ok (.ireturn, 1) := dk_172 (dk_at dksX8_ones_1 1 rfl rfl)
abbrev cX8_has : ByteArray := prog_30_method_8_code
def yX8_has : MethodName := ⟨RX8, "has", "(II)Z"⟩
def dkwX8_has_0 : List UInt8 := [26, 27, 122, 4, 126, 4, 160, 0, 7, 4, 167, 0, 4, 3, 172]
abbrev dktX8_has_0 : List UInt8 := dkwX8_has_0 ++ []
theorem dksX8_has_0 : cX8_has.data.toList.drop 0 = dktX8_has_0 := by decide +kernel
theorem dX8_has_0 : decode cX8_has 0 = .ok (.iload_n 0, 1) := dk_26 (dk_at dksX8_has_0 0 rfl rfl)
theorem dX8_has_1 : decode cX8_has 1 = .ok (.iload_n 1, 1) := dk_27 (dk_at dksX8_has_0 1 rfl rfl)
theorem dX8_has_2 : decode cX8_has 2 = .ok (.ishr, 1) := dk_122 (dk_at dksX8_has_0 2 rfl rfl)
theorem dX8_has_3 : decode cX8_has 3 = .ok (.iconst 1, 1) := dk_4 (dk_at dksX8_has_0 3 rfl rfl)
theorem dX8_has_4 : decode cX8_has 4 = .ok (.iand, 1) := dk_126 (dk_at dksX8_has_0 4 rfl rfl)
theorem dX8_has_5 : decode cX8_has 5 = .ok (.iconst 1, 1) := dk_4 (dk_at dksX8_has_0 5 rfl rfl)
theorem dX8_has_6 : decode cX8_has 6 = .ok (.if_icmp .ne 7, 3) := dk_160 0 7 (dk_at dksX8_has_0 6 rfl rfl)
theorem dX8_has_9 : decode cX8_has 9 = .ok (.iconst 1, 1) := dk_4 (dk_at dksX8_has_0 9 rfl rfl)
theorem dX8_has_10 : decode cX8_has 10 = .ok (.goto 4, 3) := dk_167 0 4 (dk_at dksX8_has_0 10 rfl rfl)
theorem dX8_has_13 : decode cX8_has 13 = .ok (.iconst 0, 1) := dk_3 (dk_at dksX8_has_0 13 rfl rfl)
theorem dX8_has_14 : decode cX8_has 14 = .ok (.ireturn, 1) := dk_172 (dk_at dksX8_has_0 14 rfl rfl)
abbrev cX8_price : ByteArray := prog_30_method_91_code
def yX8_price : MethodName := ⟨RX8, "price", "(III)J"⟩
def dkwX8_price_7 : List UInt8 := [154, 0, 11, 22, 4, 22, 8, 109, 167, 0, 8, 22, 6, 22, 8, 109, 173]
abbrev dktX8_price_7 : List UInt8 := dkwX8_price_7 ++ []
def dkwX8_price_6 : List UInt8 := [153, 0, 21, 22, 8, 22, 10, 113, 55, 12, 22, 10, 55, 8, 22, 12, 55, 10, 167, 255, 234, 29]
abbrev dktX8_price_6 : List UInt8 := dkwX8_price_6 ++ dktX8_price_7
def dkwX8_price_5 : List UInt8 := [28, 133, 105, 55, 6, 132, 8, 1, 167, 255, 190, 22, 6, 55, 8, 22, 4, 55, 10, 22, 10, 9, 148]
abbrev dktX8_price_5 : List UInt8 := dkwX8_price_5 ++ dktX8_price_6
def dkwX8_price_4 : List UInt8 := [133, 22, 6, 105, 167, 0, 5, 22, 4, 97, 55, 9, 132, 11, 1, 167, 255, 219, 22, 9, 55, 4, 22, 6]
abbrev dktX8_price_4 : List UInt8 := dkwX8_price_4 ++ dktX8_price_5
def dkwX8_price_3 : List UInt8 := [54, 11, 21, 11, 28, 163, 0, 37, 22, 9, 21, 11, 133, 22, 6, 105, 22, 4, 148, 158, 0, 12, 21, 11]
abbrev dktX8_price_3 : List UInt8 := dkwX8_price_3 ++ dktX8_price_4
def dkwX8_price_2 : List UInt8 := [153, 0, 5, 9, 173, 9, 55, 4, 10, 55, 6, 3, 54, 8, 21, 8, 27, 162, 0, 66, 9, 55, 9, 4]
abbrev dktX8_price_2 : List UInt8 := dkwX8_price_2 ++ dktX8_price_3
def dkwX8_price_1 : List UInt8 := [153, 0, 12, 29, 3, 4, 184, 0, 140, 154, 0, 7, 4, 167, 0, 4, 3, 4, 4, 182, 0, 189]
abbrev dktX8_price_1 : List UInt8 := dkwX8_price_1 ++ dktX8_price_2
def dkwX8_price_0 : List UInt8 := [42, 3, 181, 0, 106, 42, 27, 4, 16, 6, 184, 0, 140, 153, 0, 22, 28, 4, 16, 9, 184, 0, 140]
abbrev dktX8_price_0 : List UInt8 := dkwX8_price_0 ++ dktX8_price_1
theorem dksX8_price_0 : cX8_price.data.toList.drop 0 = dktX8_price_0 := by decide +kernel
theorem dksX8_price_1 : cX8_price.data.toList.drop 23 = dktX8_price_1 := dk_seg dksX8_price_0 23 rfl rfl
theorem dksX8_price_2 : cX8_price.data.toList.drop 45 = dktX8_price_2 := dk_seg dksX8_price_1 22 rfl rfl
theorem dksX8_price_3 : cX8_price.data.toList.drop 69 = dktX8_price_3 := dk_seg dksX8_price_2 24 rfl rfl
theorem dksX8_price_4 : cX8_price.data.toList.drop 93 = dktX8_price_4 := dk_seg dksX8_price_3 24 rfl rfl
theorem dksX8_price_5 : cX8_price.data.toList.drop 117 = dktX8_price_5 := dk_seg dksX8_price_4 24 rfl rfl
theorem dksX8_price_6 : cX8_price.data.toList.drop 140 = dktX8_price_6 := dk_seg dksX8_price_5 23 rfl rfl
theorem dksX8_price_7 : cX8_price.data.toList.drop 162 = dktX8_price_7 := dk_seg dksX8_price_6 22 rfl rfl
theorem dX8_price_0 : decode cX8_price 0 = .ok (.aload_n 0, 1) := dk_42 (dk_at dksX8_price_0 0 rfl rfl)
theorem dX8_price_1 : decode cX8_price 1 = .ok (.iconst 0, 1) := dk_3 (dk_at dksX8_price_0 1 rfl rfl)
theorem dX8_price_2 : decode cX8_price 2 = .ok (.putfield 106, 3) := dk_181 0 106 (dk_at dksX8_price_0 2 rfl rfl)
theorem dX8_price_5 : decode cX8_price 5 = .ok (.aload_n 0, 1) := dk_42 (dk_at dksX8_price_0 5 rfl rfl)
theorem dX8_price_6 : decode cX8_price 6 = .ok (.iload_n 1, 1) := dk_27 (dk_at dksX8_price_0 6 rfl rfl)
theorem dX8_price_7 : decode cX8_price 7 = .ok (.iconst 1, 1) := dk_4 (dk_at dksX8_price_0 7 rfl rfl)
theorem dX8_price_8 : decode cX8_price 8 = .ok (.bipush 6, 2) := dk_16 6 (dk_at dksX8_price_0 8 rfl rfl)
theorem dX8_price_10 : decode cX8_price 10 = .ok (.invokestatic 140, 3) := dk_184 0 140 (dk_at dksX8_price_0 10 rfl rfl)
theorem dX8_price_13 : decode cX8_price 13 = .ok (.ifCond .eq 22, 3) := dk_153 0 22 (dk_at dksX8_price_0 13 rfl rfl)
theorem dX8_price_16 : decode cX8_price 16 = .ok (.iload_n 2, 1) := dk_28 (dk_at dksX8_price_0 16 rfl rfl)
theorem dX8_price_17 : decode cX8_price 17 = .ok (.iconst 1, 1) := dk_4 (dk_at dksX8_price_0 17 rfl rfl)
theorem dX8_price_18 : decode cX8_price 18 = .ok (.bipush 9, 2) := dk_16 9 (dk_at dksX8_price_0 18 rfl rfl)
theorem dX8_price_20 : decode cX8_price 20 = .ok (.invokestatic 140, 3) := dk_184 0 140 (dk_at dksX8_price_0 20 rfl rfl)
theorem dX8_price_23 : decode cX8_price 23 = .ok (.ifCond .eq 12, 3) := dk_153 0 12 (dk_at dksX8_price_1 0 rfl rfl)
theorem dX8_price_26 : decode cX8_price 26 = .ok (.iload_n 3, 1) := dk_29 (dk_at dksX8_price_1 3 rfl rfl)
theorem dX8_price_27 : decode cX8_price 27 = .ok (.iconst 0, 1) := dk_3 (dk_at dksX8_price_1 4 rfl rfl)
theorem dX8_price_28 : decode cX8_price 28 = .ok (.iconst 1, 1) := dk_4 (dk_at dksX8_price_1 5 rfl rfl)
theorem dX8_price_29 : decode cX8_price 29 = .ok (.invokestatic 140, 3) := dk_184 0 140 (dk_at dksX8_price_1 6 rfl rfl)
theorem dX8_price_32 : decode cX8_price 32 = .ok (.ifCond .ne 7, 3) := dk_154 0 7 (dk_at dksX8_price_1 9 rfl rfl)
theorem dX8_price_35 : decode cX8_price 35 = .ok (.iconst 1, 1) := dk_4 (dk_at dksX8_price_1 12 rfl rfl)
theorem dX8_price_36 : decode cX8_price 36 = .ok (.goto 4, 3) := dk_167 0 4 (dk_at dksX8_price_1 13 rfl rfl)
theorem dX8_price_39 : decode cX8_price 39 = .ok (.iconst 0, 1) := dk_3 (dk_at dksX8_price_1 16 rfl rfl)
theorem dX8_price_40 : decode cX8_price 40 = .ok (.iconst 1, 1) := dk_4 (dk_at dksX8_price_1 17 rfl rfl)
theorem dX8_price_41 : decode cX8_price 41 = .ok (.iconst 1, 1) := dk_4 (dk_at dksX8_price_1 18 rfl rfl)
theorem dX8_price_42 : decode cX8_price 42 = .ok (.invokevirtual 189, 3) := dk_182 0 189 (dk_at dksX8_price_1 19 rfl rfl)
theorem dX8_price_45 : decode cX8_price 45 = .ok (.ifCond .eq 5, 3) := dk_153 0 5 (dk_at dksX8_price_2 0 rfl rfl)
theorem dX8_price_48 : decode cX8_price 48 = .ok (.lconst 0, 1) := dk_9 (dk_at dksX8_price_2 3 rfl rfl)
theorem dX8_price_49 : decode cX8_price 49 = .ok (.lreturn, 1) := dk_173 (dk_at dksX8_price_2 4 rfl rfl)
theorem dX8_price_50 : decode cX8_price 50 = .ok (.lconst 0, 1) := dk_9 (dk_at dksX8_price_2 5 rfl rfl)
theorem dX8_price_51 : decode cX8_price 51 = .ok (.lstore 4, 2) := dk_55 4 (dk_at dksX8_price_2 6 rfl rfl)
theorem dX8_price_53 : decode cX8_price 53 = .ok (.lconst 1, 1) := dk_10 (dk_at dksX8_price_2 8 rfl rfl)
theorem dX8_price_54 : decode cX8_price 54 = .ok (.lstore 6, 2) := dk_55 6 (dk_at dksX8_price_2 9 rfl rfl)
theorem dX8_price_56 : decode cX8_price 56 = .ok (.iconst 0, 1) := dk_3 (dk_at dksX8_price_2 11 rfl rfl)
theorem dX8_price_57 : decode cX8_price 57 = .ok (.istore 8, 2) := dk_54 8 (dk_at dksX8_price_2 12 rfl rfl)
theorem dX8_price_59 : decode cX8_price 59 = .ok (.iload 8, 2) := dk_21 8 (dk_at dksX8_price_2 14 rfl rfl)
theorem dX8_price_61 : decode cX8_price 61 = .ok (.iload_n 1, 1) := dk_27 (dk_at dksX8_price_2 16 rfl rfl)
theorem dX8_price_62 : decode cX8_price 62 = .ok (.if_icmp .ge 66, 3) := dk_162 0 66 (dk_at dksX8_price_2 17 rfl rfl)
theorem dX8_price_65 : decode cX8_price 65 = .ok (.lconst 0, 1) := dk_9 (dk_at dksX8_price_2 20 rfl rfl)
theorem dX8_price_66 : decode cX8_price 66 = .ok (.lstore 9, 2) := dk_55 9 (dk_at dksX8_price_2 21 rfl rfl)
theorem dX8_price_68 : decode cX8_price 68 = .ok (.iconst 1, 1) := dk_4 (dk_at dksX8_price_2 23 rfl rfl)
theorem dX8_price_69 : decode cX8_price 69 = .ok (.istore 11, 2) := dk_54 11 (dk_at dksX8_price_3 0 rfl rfl)
theorem dX8_price_71 : decode cX8_price 71 = .ok (.iload 11, 2) := dk_21 11 (dk_at dksX8_price_3 2 rfl rfl)
theorem dX8_price_73 : decode cX8_price 73 = .ok (.iload_n 2, 1) := dk_28 (dk_at dksX8_price_3 4 rfl rfl)
theorem dX8_price_74 : decode cX8_price 74 = .ok (.if_icmp .gt 37, 3) := dk_163 0 37 (dk_at dksX8_price_3 5 rfl rfl)
theorem dX8_price_77 : decode cX8_price 77 = .ok (.lload 9, 2) := dk_22 9 (dk_at dksX8_price_3 8 rfl rfl)
theorem dX8_price_79 : decode cX8_price 79 = .ok (.iload 11, 2) := dk_21 11 (dk_at dksX8_price_3 10 rfl rfl)
theorem dX8_price_81 : decode cX8_price 81 = .ok (.i2l, 1) := dk_133 (dk_at dksX8_price_3 12 rfl rfl)
theorem dX8_price_82 : decode cX8_price 82 = .ok (.lload 6, 2) := dk_22 6 (dk_at dksX8_price_3 13 rfl rfl)
theorem dX8_price_84 : decode cX8_price 84 = .ok (.lmul, 1) := dk_105 (dk_at dksX8_price_3 15 rfl rfl)
theorem dX8_price_85 : decode cX8_price 85 = .ok (.lload 4, 2) := dk_22 4 (dk_at dksX8_price_3 16 rfl rfl)
theorem dX8_price_87 : decode cX8_price 87 = .ok (.lcmp, 1) := dk_148 (dk_at dksX8_price_3 18 rfl rfl)
theorem dX8_price_88 : decode cX8_price 88 = .ok (.ifCond .le 12, 3) := dk_158 0 12 (dk_at dksX8_price_3 19 rfl rfl)
theorem dX8_price_91 : decode cX8_price 91 = .ok (.iload 11, 2) := dk_21 11 (dk_at dksX8_price_3 22 rfl rfl)
theorem dX8_price_93 : decode cX8_price 93 = .ok (.i2l, 1) := dk_133 (dk_at dksX8_price_4 0 rfl rfl)
theorem dX8_price_94 : decode cX8_price 94 = .ok (.lload 6, 2) := dk_22 6 (dk_at dksX8_price_4 1 rfl rfl)
theorem dX8_price_96 : decode cX8_price 96 = .ok (.lmul, 1) := dk_105 (dk_at dksX8_price_4 3 rfl rfl)
theorem dX8_price_97 : decode cX8_price 97 = .ok (.goto 5, 3) := dk_167 0 5 (dk_at dksX8_price_4 4 rfl rfl)
theorem dX8_price_100 : decode cX8_price 100 = .ok (.lload 4, 2) := dk_22 4 (dk_at dksX8_price_4 7 rfl rfl)
theorem dX8_price_102 : decode cX8_price 102 = .ok (.ladd, 1) := dk_97 (dk_at dksX8_price_4 9 rfl rfl)
theorem dX8_price_103 : decode cX8_price 103 = .ok (.lstore 9, 2) := dk_55 9 (dk_at dksX8_price_4 10 rfl rfl)
theorem dX8_price_105 : decode cX8_price 105 = .ok (.iinc 11 1, 3) := dk_132 11 1 (dk_at dksX8_price_4 12 rfl rfl)
theorem dX8_price_108 : decode cX8_price 108 = .ok (.goto (-37), 3) := dk_167 255 219 (dk_at dksX8_price_4 15 rfl rfl)
theorem dX8_price_111 : decode cX8_price 111 = .ok (.lload 9, 2) := dk_22 9 (dk_at dksX8_price_4 18 rfl rfl)
theorem dX8_price_113 : decode cX8_price 113 = .ok (.lstore 4, 2) := dk_55 4 (dk_at dksX8_price_4 20 rfl rfl)
theorem dX8_price_115 : decode cX8_price 115 = .ok (.lload 6, 2) := dk_22 6 (dk_at dksX8_price_4 22 rfl rfl)
theorem dX8_price_117 : decode cX8_price 117 = .ok (.iload_n 2, 1) := dk_28 (dk_at dksX8_price_5 0 rfl rfl)
theorem dX8_price_118 : decode cX8_price 118 = .ok (.i2l, 1) := dk_133 (dk_at dksX8_price_5 1 rfl rfl)
theorem dX8_price_119 : decode cX8_price 119 = .ok (.lmul, 1) := dk_105 (dk_at dksX8_price_5 2 rfl rfl)
theorem dX8_price_120 : decode cX8_price 120 = .ok (.lstore 6, 2) := dk_55 6 (dk_at dksX8_price_5 3 rfl rfl)
theorem dX8_price_122 : decode cX8_price 122 = .ok (.iinc 8 1, 3) := dk_132 8 1 (dk_at dksX8_price_5 5 rfl rfl)
theorem dX8_price_125 : decode cX8_price 125 = .ok (.goto (-66), 3) := dk_167 255 190 (dk_at dksX8_price_5 8 rfl rfl)
theorem dX8_price_128 : decode cX8_price 128 = .ok (.lload 6, 2) := dk_22 6 (dk_at dksX8_price_5 11 rfl rfl)
theorem dX8_price_130 : decode cX8_price 130 = .ok (.lstore 8, 2) := dk_55 8 (dk_at dksX8_price_5 13 rfl rfl)
theorem dX8_price_132 : decode cX8_price 132 = .ok (.lload 4, 2) := dk_22 4 (dk_at dksX8_price_5 15 rfl rfl)
theorem dX8_price_134 : decode cX8_price 134 = .ok (.lstore 10, 2) := dk_55 10 (dk_at dksX8_price_5 17 rfl rfl)
theorem dX8_price_136 : decode cX8_price 136 = .ok (.lload 10, 2) := dk_22 10 (dk_at dksX8_price_5 19 rfl rfl)
theorem dX8_price_138 : decode cX8_price 138 = .ok (.lconst 0, 1) := dk_9 (dk_at dksX8_price_5 21 rfl rfl)
theorem dX8_price_139 : decode cX8_price 139 = .ok (.lcmp, 1) := dk_148 (dk_at dksX8_price_5 22 rfl rfl)
theorem dX8_price_140 : decode cX8_price 140 = .ok (.ifCond .eq 21, 3) := dk_153 0 21 (dk_at dksX8_price_6 0 rfl rfl)
theorem dX8_price_143 : decode cX8_price 143 = .ok (.lload 8, 2) := dk_22 8 (dk_at dksX8_price_6 3 rfl rfl)
theorem dX8_price_145 : decode cX8_price 145 = .ok (.lload 10, 2) := dk_22 10 (dk_at dksX8_price_6 5 rfl rfl)
theorem dX8_price_147 : decode cX8_price 147 = .ok (.lrem, 1) := dk_113 (dk_at dksX8_price_6 7 rfl rfl)
theorem dX8_price_148 : decode cX8_price 148 = .ok (.lstore 12, 2) := dk_55 12 (dk_at dksX8_price_6 8 rfl rfl)
theorem dX8_price_150 : decode cX8_price 150 = .ok (.lload 10, 2) := dk_22 10 (dk_at dksX8_price_6 10 rfl rfl)
theorem dX8_price_152 : decode cX8_price 152 = .ok (.lstore 8, 2) := dk_55 8 (dk_at dksX8_price_6 12 rfl rfl)
theorem dX8_price_154 : decode cX8_price 154 = .ok (.lload 12, 2) := dk_22 12 (dk_at dksX8_price_6 14 rfl rfl)
theorem dX8_price_156 : decode cX8_price 156 = .ok (.lstore 10, 2) := dk_55 10 (dk_at dksX8_price_6 16 rfl rfl)
theorem dX8_price_158 : decode cX8_price 158 = .ok (.goto (-22), 3) := dk_167 255 234 (dk_at dksX8_price_6 18 rfl rfl)
theorem dX8_price_161 : decode cX8_price 161 = .ok (.iload_n 3, 1) := dk_29 (dk_at dksX8_price_6 21 rfl rfl)
theorem dX8_price_162 : decode cX8_price 162 = .ok (.ifCond .ne 11, 3) := dk_154 0 11 (dk_at dksX8_price_7 0 rfl rfl)
theorem dX8_price_165 : decode cX8_price 165 = .ok (.lload 4, 2) := dk_22 4 (dk_at dksX8_price_7 3 rfl rfl)
theorem dX8_price_167 : decode cX8_price 167 = .ok (.lload 8, 2) := dk_22 8 (dk_at dksX8_price_7 5 rfl rfl)
theorem dX8_price_169 : decode cX8_price 169 = .ok (.ldiv, 1) := dk_109 (dk_at dksX8_price_7 7 rfl rfl)
theorem dX8_price_170 : decode cX8_price 170 = .ok (.goto 8, 3) := dk_167 0 8 (dk_at dksX8_price_7 8 rfl rfl)
theorem dX8_price_173 : decode cX8_price 173 = .ok (.lload 6, 2) := dk_22 6 (dk_at dksX8_price_7 11 rfl rfl)
theorem dX8_price_175 : decode cX8_price 175 = .ok (.lload 8, 2) := dk_22 8 (dk_at dksX8_price_7 13 rfl rfl)
theorem dX8_price_177 : decode cX8_price 177 = .ok (.ldiv, 1) := dk_109 (dk_at dksX8_price_7 15 rfl rfl)
theorem dX8_price_178 : decode cX8_price 178 = .ok (.lreturn, 1) := dk_173 (dk_at dksX8_price_7 16 rfl rfl)
abbrev cX8_tuner : ByteArray := prog_30_method_94_code
def yX8_tuner : MethodName := ⟨RX8, "tuner", "(III)I"⟩
def dkwX8_tuner_8 : List UInt8 := [154, 0, 8, 21, 4, 167, 0, 15, 29, 4, 160, 0, 8, 21, 5, 167, 0, 5, 21, 6, 172]
abbrev dktX8_tuner_8 : List UInt8 := dkwX8_tuner_8 ++ []
def dkwX8_tuner_7 : List UInt8 := [21, 8, 104, 21, 9, 96, 167, 0, 5, 21, 5, 54, 5, 132, 4, 1, 132, 7, 1, 167, 255, 135, 29]
abbrev dktX8_tuner_7 : List UInt8 := dkwX8_tuner_7 ++ dktX8_tuner_8
def dkwX8_tuner_6 : List UInt8 := [21, 8, 21, 9, 27, 28, 184, 1, 120, 96, 167, 0, 5, 21, 6, 54, 6, 21, 4, 154, 0, 14, 16, 10]
abbrev dktX8_tuner_6 : List UInt8 := dkwX8_tuner_6 ++ dktX8_tuner_7
def dkwX8_tuner_5 : List UInt8 := [27, 28, 184, 1, 120, 164, 0, 6, 167, 0, 56, 21, 4, 154, 0, 24, 21, 8, 21, 9, 27, 184, 1, 117]
abbrev dktX8_tuner_5 : List UInt8 := dkwX8_tuner_5 ++ dktX8_tuner_6
def dkwX8_tuner_4 : List UInt8 := [21, 9, 27, 184, 1, 117, 163, 0, 82, 21, 8, 4, 21, 9, 100, 27, 28, 184, 1, 120, 21, 8, 21, 9]
abbrev dktX8_tuner_4 : List UInt8 := dkwX8_tuner_4 ++ dktX8_tuner_5
def dkwX8_tuner_3 : List UInt8 := [21, 7, 5, 108, 54, 8, 21, 7, 5, 112, 54, 9, 4, 21, 8, 100, 21, 9, 27, 184, 1, 117, 21, 8]
abbrev dktX8_tuner_3 : List UInt8 := dkwX8_tuner_3 ++ dktX8_tuner_4
def dkwX8_tuner_2 : List UInt8 := [153, 0, 5, 3, 172, 3, 54, 4, 2, 54, 5, 3, 54, 6, 3, 54, 7, 21, 7, 7, 162, 0, 121]
abbrev dktX8_tuner_2 : List UInt8 := dkwX8_tuner_2 ++ dktX8_tuner_3
def dkwX8_tuner_1 : List UInt8 := [153, 0, 12, 29, 3, 5, 184, 0, 140, 154, 0, 7, 4, 167, 0, 4, 3, 4, 4, 182, 0, 189]
abbrev dktX8_tuner_1 : List UInt8 := dkwX8_tuner_1 ++ dktX8_tuner_2
def dkwX8_tuner_0 : List UInt8 := [42, 3, 181, 0, 106, 42, 27, 3, 16, 99, 184, 0, 140, 153, 0, 22, 28, 3, 16, 99, 184, 0, 140]
abbrev dktX8_tuner_0 : List UInt8 := dkwX8_tuner_0 ++ dktX8_tuner_1
theorem dksX8_tuner_0 : cX8_tuner.data.toList.drop 0 = dktX8_tuner_0 := by decide +kernel
theorem dksX8_tuner_1 : cX8_tuner.data.toList.drop 23 = dktX8_tuner_1 := dk_seg dksX8_tuner_0 23 rfl rfl
theorem dksX8_tuner_2 : cX8_tuner.data.toList.drop 45 = dktX8_tuner_2 := dk_seg dksX8_tuner_1 22 rfl rfl
theorem dksX8_tuner_3 : cX8_tuner.data.toList.drop 68 = dktX8_tuner_3 := dk_seg dksX8_tuner_2 23 rfl rfl
theorem dksX8_tuner_4 : cX8_tuner.data.toList.drop 92 = dktX8_tuner_4 := dk_seg dksX8_tuner_3 24 rfl rfl
theorem dksX8_tuner_5 : cX8_tuner.data.toList.drop 116 = dktX8_tuner_5 := dk_seg dksX8_tuner_4 24 rfl rfl
theorem dksX8_tuner_6 : cX8_tuner.data.toList.drop 140 = dktX8_tuner_6 := dk_seg dksX8_tuner_5 24 rfl rfl
theorem dksX8_tuner_7 : cX8_tuner.data.toList.drop 164 = dktX8_tuner_7 := dk_seg dksX8_tuner_6 24 rfl rfl
theorem dksX8_tuner_8 : cX8_tuner.data.toList.drop 187 = dktX8_tuner_8 := dk_seg dksX8_tuner_7 23 rfl rfl
theorem dX8_tuner_0 : decode cX8_tuner 0 = .ok (.aload_n 0, 1) := dk_42 (dk_at dksX8_tuner_0 0 rfl rfl)
theorem dX8_tuner_1 : decode cX8_tuner 1 = .ok (.iconst 0, 1) := dk_3 (dk_at dksX8_tuner_0 1 rfl rfl)
theorem dX8_tuner_2 : decode cX8_tuner 2 = .ok (.putfield 106, 3) := dk_181 0 106 (dk_at dksX8_tuner_0 2 rfl rfl)
theorem dX8_tuner_5 : decode cX8_tuner 5 = .ok (.aload_n 0, 1) := dk_42 (dk_at dksX8_tuner_0 5 rfl rfl)
theorem dX8_tuner_6 : decode cX8_tuner 6 = .ok (.iload_n 1, 1) := dk_27 (dk_at dksX8_tuner_0 6 rfl rfl)
theorem dX8_tuner_7 : decode cX8_tuner 7 = .ok (.iconst 0, 1) := dk_3 (dk_at dksX8_tuner_0 7 rfl rfl)
theorem dX8_tuner_8 : decode cX8_tuner 8 = .ok (.bipush 99, 2) := dk_16 99 (dk_at dksX8_tuner_0 8 rfl rfl)
theorem dX8_tuner_10 : decode cX8_tuner 10 = .ok (.invokestatic 140, 3) := dk_184 0 140 (dk_at dksX8_tuner_0 10 rfl rfl)
theorem dX8_tuner_13 : decode cX8_tuner 13 = .ok (.ifCond .eq 22, 3) := dk_153 0 22 (dk_at dksX8_tuner_0 13 rfl rfl)
theorem dX8_tuner_16 : decode cX8_tuner 16 = .ok (.iload_n 2, 1) := dk_28 (dk_at dksX8_tuner_0 16 rfl rfl)
theorem dX8_tuner_17 : decode cX8_tuner 17 = .ok (.iconst 0, 1) := dk_3 (dk_at dksX8_tuner_0 17 rfl rfl)
theorem dX8_tuner_18 : decode cX8_tuner 18 = .ok (.bipush 99, 2) := dk_16 99 (dk_at dksX8_tuner_0 18 rfl rfl)
theorem dX8_tuner_20 : decode cX8_tuner 20 = .ok (.invokestatic 140, 3) := dk_184 0 140 (dk_at dksX8_tuner_0 20 rfl rfl)
theorem dX8_tuner_23 : decode cX8_tuner 23 = .ok (.ifCond .eq 12, 3) := dk_153 0 12 (dk_at dksX8_tuner_1 0 rfl rfl)
theorem dX8_tuner_26 : decode cX8_tuner 26 = .ok (.iload_n 3, 1) := dk_29 (dk_at dksX8_tuner_1 3 rfl rfl)
theorem dX8_tuner_27 : decode cX8_tuner 27 = .ok (.iconst 0, 1) := dk_3 (dk_at dksX8_tuner_1 4 rfl rfl)
theorem dX8_tuner_28 : decode cX8_tuner 28 = .ok (.iconst 2, 1) := dk_5 (dk_at dksX8_tuner_1 5 rfl rfl)
theorem dX8_tuner_29 : decode cX8_tuner 29 = .ok (.invokestatic 140, 3) := dk_184 0 140 (dk_at dksX8_tuner_1 6 rfl rfl)
theorem dX8_tuner_32 : decode cX8_tuner 32 = .ok (.ifCond .ne 7, 3) := dk_154 0 7 (dk_at dksX8_tuner_1 9 rfl rfl)
theorem dX8_tuner_35 : decode cX8_tuner 35 = .ok (.iconst 1, 1) := dk_4 (dk_at dksX8_tuner_1 12 rfl rfl)
theorem dX8_tuner_36 : decode cX8_tuner 36 = .ok (.goto 4, 3) := dk_167 0 4 (dk_at dksX8_tuner_1 13 rfl rfl)
theorem dX8_tuner_39 : decode cX8_tuner 39 = .ok (.iconst 0, 1) := dk_3 (dk_at dksX8_tuner_1 16 rfl rfl)
theorem dX8_tuner_40 : decode cX8_tuner 40 = .ok (.iconst 1, 1) := dk_4 (dk_at dksX8_tuner_1 17 rfl rfl)
theorem dX8_tuner_41 : decode cX8_tuner 41 = .ok (.iconst 1, 1) := dk_4 (dk_at dksX8_tuner_1 18 rfl rfl)
theorem dX8_tuner_42 : decode cX8_tuner 42 = .ok (.invokevirtual 189, 3) := dk_182 0 189 (dk_at dksX8_tuner_1 19 rfl rfl)
theorem dX8_tuner_45 : decode cX8_tuner 45 = .ok (.ifCond .eq 5, 3) := dk_153 0 5 (dk_at dksX8_tuner_2 0 rfl rfl)
theorem dX8_tuner_48 : decode cX8_tuner 48 = .ok (.iconst 0, 1) := dk_3 (dk_at dksX8_tuner_2 3 rfl rfl)
theorem dX8_tuner_49 : decode cX8_tuner 49 = .ok (.ireturn, 1) := dk_172 (dk_at dksX8_tuner_2 4 rfl rfl)
theorem dX8_tuner_50 : decode cX8_tuner 50 = .ok (.iconst 0, 1) := dk_3 (dk_at dksX8_tuner_2 5 rfl rfl)
theorem dX8_tuner_51 : decode cX8_tuner 51 = .ok (.istore 4, 2) := dk_54 4 (dk_at dksX8_tuner_2 6 rfl rfl)
theorem dX8_tuner_53 : decode cX8_tuner 53 = .ok (.iconst (-1), 1) := dk_2 (dk_at dksX8_tuner_2 8 rfl rfl)
theorem dX8_tuner_54 : decode cX8_tuner 54 = .ok (.istore 5, 2) := dk_54 5 (dk_at dksX8_tuner_2 9 rfl rfl)
theorem dX8_tuner_56 : decode cX8_tuner 56 = .ok (.iconst 0, 1) := dk_3 (dk_at dksX8_tuner_2 11 rfl rfl)
theorem dX8_tuner_57 : decode cX8_tuner 57 = .ok (.istore 6, 2) := dk_54 6 (dk_at dksX8_tuner_2 12 rfl rfl)
theorem dX8_tuner_59 : decode cX8_tuner 59 = .ok (.iconst 0, 1) := dk_3 (dk_at dksX8_tuner_2 14 rfl rfl)
theorem dX8_tuner_60 : decode cX8_tuner 60 = .ok (.istore 7, 2) := dk_54 7 (dk_at dksX8_tuner_2 15 rfl rfl)
theorem dX8_tuner_62 : decode cX8_tuner 62 = .ok (.iload 7, 2) := dk_21 7 (dk_at dksX8_tuner_2 17 rfl rfl)
theorem dX8_tuner_64 : decode cX8_tuner 64 = .ok (.iconst 4, 1) := dk_7 (dk_at dksX8_tuner_2 19 rfl rfl)
theorem dX8_tuner_65 : decode cX8_tuner 65 = .ok (.if_icmp .ge 121, 3) := dk_162 0 121 (dk_at dksX8_tuner_2 20 rfl rfl)
theorem dX8_tuner_68 : decode cX8_tuner 68 = .ok (.iload 7, 2) := dk_21 7 (dk_at dksX8_tuner_3 0 rfl rfl)
theorem dX8_tuner_70 : decode cX8_tuner 70 = .ok (.iconst 2, 1) := dk_5 (dk_at dksX8_tuner_3 2 rfl rfl)
theorem dX8_tuner_71 : decode cX8_tuner 71 = .ok (.idiv, 1) := dk_108 (dk_at dksX8_tuner_3 3 rfl rfl)
theorem dX8_tuner_72 : decode cX8_tuner 72 = .ok (.istore 8, 2) := dk_54 8 (dk_at dksX8_tuner_3 4 rfl rfl)
theorem dX8_tuner_74 : decode cX8_tuner 74 = .ok (.iload 7, 2) := dk_21 7 (dk_at dksX8_tuner_3 6 rfl rfl)
theorem dX8_tuner_76 : decode cX8_tuner 76 = .ok (.iconst 2, 1) := dk_5 (dk_at dksX8_tuner_3 8 rfl rfl)
theorem dX8_tuner_77 : decode cX8_tuner 77 = .ok (.irem, 1) := dk_112 (dk_at dksX8_tuner_3 9 rfl rfl)
theorem dX8_tuner_78 : decode cX8_tuner 78 = .ok (.istore 9, 2) := dk_54 9 (dk_at dksX8_tuner_3 10 rfl rfl)
theorem dX8_tuner_80 : decode cX8_tuner 80 = .ok (.iconst 1, 1) := dk_4 (dk_at dksX8_tuner_3 12 rfl rfl)
theorem dX8_tuner_81 : decode cX8_tuner 81 = .ok (.iload 8, 2) := dk_21 8 (dk_at dksX8_tuner_3 13 rfl rfl)
theorem dX8_tuner_83 : decode cX8_tuner 83 = .ok (.isub, 1) := dk_100 (dk_at dksX8_tuner_3 15 rfl rfl)
theorem dX8_tuner_84 : decode cX8_tuner 84 = .ok (.iload 9, 2) := dk_21 9 (dk_at dksX8_tuner_3 16 rfl rfl)
theorem dX8_tuner_86 : decode cX8_tuner 86 = .ok (.iload_n 1, 1) := dk_27 (dk_at dksX8_tuner_3 18 rfl rfl)
theorem dX8_tuner_87 : decode cX8_tuner 87 = .ok (.invokestatic 373, 3) := dk_184 1 117 (dk_at dksX8_tuner_3 19 rfl rfl)
theorem dX8_tuner_90 : decode cX8_tuner 90 = .ok (.iload 8, 2) := dk_21 8 (dk_at dksX8_tuner_3 22 rfl rfl)
theorem dX8_tuner_92 : decode cX8_tuner 92 = .ok (.iload 9, 2) := dk_21 9 (dk_at dksX8_tuner_4 0 rfl rfl)
theorem dX8_tuner_94 : decode cX8_tuner 94 = .ok (.iload_n 1, 1) := dk_27 (dk_at dksX8_tuner_4 2 rfl rfl)
theorem dX8_tuner_95 : decode cX8_tuner 95 = .ok (.invokestatic 373, 3) := dk_184 1 117 (dk_at dksX8_tuner_4 3 rfl rfl)
theorem dX8_tuner_98 : decode cX8_tuner 98 = .ok (.if_icmp .gt 82, 3) := dk_163 0 82 (dk_at dksX8_tuner_4 6 rfl rfl)
theorem dX8_tuner_101 : decode cX8_tuner 101 = .ok (.iload 8, 2) := dk_21 8 (dk_at dksX8_tuner_4 9 rfl rfl)
theorem dX8_tuner_103 : decode cX8_tuner 103 = .ok (.iconst 1, 1) := dk_4 (dk_at dksX8_tuner_4 11 rfl rfl)
theorem dX8_tuner_104 : decode cX8_tuner 104 = .ok (.iload 9, 2) := dk_21 9 (dk_at dksX8_tuner_4 12 rfl rfl)
theorem dX8_tuner_106 : decode cX8_tuner 106 = .ok (.isub, 1) := dk_100 (dk_at dksX8_tuner_4 14 rfl rfl)
theorem dX8_tuner_107 : decode cX8_tuner 107 = .ok (.iload_n 1, 1) := dk_27 (dk_at dksX8_tuner_4 15 rfl rfl)
theorem dX8_tuner_108 : decode cX8_tuner 108 = .ok (.iload_n 2, 1) := dk_28 (dk_at dksX8_tuner_4 16 rfl rfl)
theorem dX8_tuner_109 : decode cX8_tuner 109 = .ok (.invokestatic 376, 3) := dk_184 1 120 (dk_at dksX8_tuner_4 17 rfl rfl)
theorem dX8_tuner_112 : decode cX8_tuner 112 = .ok (.iload 8, 2) := dk_21 8 (dk_at dksX8_tuner_4 20 rfl rfl)
theorem dX8_tuner_114 : decode cX8_tuner 114 = .ok (.iload 9, 2) := dk_21 9 (dk_at dksX8_tuner_4 22 rfl rfl)
theorem dX8_tuner_116 : decode cX8_tuner 116 = .ok (.iload_n 1, 1) := dk_27 (dk_at dksX8_tuner_5 0 rfl rfl)
theorem dX8_tuner_117 : decode cX8_tuner 117 = .ok (.iload_n 2, 1) := dk_28 (dk_at dksX8_tuner_5 1 rfl rfl)
theorem dX8_tuner_118 : decode cX8_tuner 118 = .ok (.invokestatic 376, 3) := dk_184 1 120 (dk_at dksX8_tuner_5 2 rfl rfl)
theorem dX8_tuner_121 : decode cX8_tuner 121 = .ok (.if_icmp .le 6, 3) := dk_164 0 6 (dk_at dksX8_tuner_5 5 rfl rfl)
theorem dX8_tuner_124 : decode cX8_tuner 124 = .ok (.goto 56, 3) := dk_167 0 56 (dk_at dksX8_tuner_5 8 rfl rfl)
theorem dX8_tuner_127 : decode cX8_tuner 127 = .ok (.iload 4, 2) := dk_21 4 (dk_at dksX8_tuner_5 11 rfl rfl)
theorem dX8_tuner_129 : decode cX8_tuner 129 = .ok (.ifCond .ne 24, 3) := dk_154 0 24 (dk_at dksX8_tuner_5 13 rfl rfl)
theorem dX8_tuner_132 : decode cX8_tuner 132 = .ok (.iload 8, 2) := dk_21 8 (dk_at dksX8_tuner_5 16 rfl rfl)
theorem dX8_tuner_134 : decode cX8_tuner 134 = .ok (.iload 9, 2) := dk_21 9 (dk_at dksX8_tuner_5 18 rfl rfl)
theorem dX8_tuner_136 : decode cX8_tuner 136 = .ok (.iload_n 1, 1) := dk_27 (dk_at dksX8_tuner_5 20 rfl rfl)
theorem dX8_tuner_137 : decode cX8_tuner 137 = .ok (.invokestatic 373, 3) := dk_184 1 117 (dk_at dksX8_tuner_5 21 rfl rfl)
theorem dX8_tuner_140 : decode cX8_tuner 140 = .ok (.iload 8, 2) := dk_21 8 (dk_at dksX8_tuner_6 0 rfl rfl)
theorem dX8_tuner_142 : decode cX8_tuner 142 = .ok (.iload 9, 2) := dk_21 9 (dk_at dksX8_tuner_6 2 rfl rfl)
theorem dX8_tuner_144 : decode cX8_tuner 144 = .ok (.iload_n 1, 1) := dk_27 (dk_at dksX8_tuner_6 4 rfl rfl)
theorem dX8_tuner_145 : decode cX8_tuner 145 = .ok (.iload_n 2, 1) := dk_28 (dk_at dksX8_tuner_6 5 rfl rfl)
theorem dX8_tuner_146 : decode cX8_tuner 146 = .ok (.invokestatic 376, 3) := dk_184 1 120 (dk_at dksX8_tuner_6 6 rfl rfl)
theorem dX8_tuner_149 : decode cX8_tuner 149 = .ok (.iadd, 1) := dk_96 (dk_at dksX8_tuner_6 9 rfl rfl)
theorem dX8_tuner_150 : decode cX8_tuner 150 = .ok (.goto 5, 3) := dk_167 0 5 (dk_at dksX8_tuner_6 10 rfl rfl)
theorem dX8_tuner_153 : decode cX8_tuner 153 = .ok (.iload 6, 2) := dk_21 6 (dk_at dksX8_tuner_6 13 rfl rfl)
theorem dX8_tuner_155 : decode cX8_tuner 155 = .ok (.istore 6, 2) := dk_54 6 (dk_at dksX8_tuner_6 15 rfl rfl)
theorem dX8_tuner_157 : decode cX8_tuner 157 = .ok (.iload 4, 2) := dk_21 4 (dk_at dksX8_tuner_6 17 rfl rfl)
theorem dX8_tuner_159 : decode cX8_tuner 159 = .ok (.ifCond .ne 14, 3) := dk_154 0 14 (dk_at dksX8_tuner_6 19 rfl rfl)
theorem dX8_tuner_162 : decode cX8_tuner 162 = .ok (.bipush 10, 2) := dk_16 10 (dk_at dksX8_tuner_6 22 rfl rfl)
theorem dX8_tuner_164 : decode cX8_tuner 164 = .ok (.iload 8, 2) := dk_21 8 (dk_at dksX8_tuner_7 0 rfl rfl)
theorem dX8_tuner_166 : decode cX8_tuner 166 = .ok (.imul, 1) := dk_104 (dk_at dksX8_tuner_7 2 rfl rfl)
theorem dX8_tuner_167 : decode cX8_tuner 167 = .ok (.iload 9, 2) := dk_21 9 (dk_at dksX8_tuner_7 3 rfl rfl)
theorem dX8_tuner_169 : decode cX8_tuner 169 = .ok (.iadd, 1) := dk_96 (dk_at dksX8_tuner_7 5 rfl rfl)
theorem dX8_tuner_170 : decode cX8_tuner 170 = .ok (.goto 5, 3) := dk_167 0 5 (dk_at dksX8_tuner_7 6 rfl rfl)
theorem dX8_tuner_173 : decode cX8_tuner 173 = .ok (.iload 5, 2) := dk_21 5 (dk_at dksX8_tuner_7 9 rfl rfl)
theorem dX8_tuner_175 : decode cX8_tuner 175 = .ok (.istore 5, 2) := dk_54 5 (dk_at dksX8_tuner_7 11 rfl rfl)
theorem dX8_tuner_177 : decode cX8_tuner 177 = .ok (.iinc 4 1, 3) := dk_132 4 1 (dk_at dksX8_tuner_7 13 rfl rfl)
theorem dX8_tuner_180 : decode cX8_tuner 180 = .ok (.iinc 7 1, 3) := dk_132 7 1 (dk_at dksX8_tuner_7 16 rfl rfl)
theorem dX8_tuner_183 : decode cX8_tuner 183 = .ok (.goto (-121), 3) := dk_167 255 135 (dk_at dksX8_tuner_7 19 rfl rfl)
theorem dX8_tuner_186 : decode cX8_tuner 186 = .ok (.iload_n 3, 1) := dk_29 (dk_at dksX8_tuner_7 22 rfl rfl)
theorem dX8_tuner_187 : decode cX8_tuner 187 = .ok (.ifCond .ne 8, 3) := dk_154 0 8 (dk_at dksX8_tuner_8 0 rfl rfl)
theorem dX8_tuner_190 : decode cX8_tuner 190 = .ok (.iload 4, 2) := dk_21 4 (dk_at dksX8_tuner_8 3 rfl rfl)
theorem dX8_tuner_192 : decode cX8_tuner 192 = .ok (.goto 15, 3) := dk_167 0 15 (dk_at dksX8_tuner_8 5 rfl rfl)
theorem dX8_tuner_195 : decode cX8_tuner 195 = .ok (.iload_n 3, 1) := dk_29 (dk_at dksX8_tuner_8 8 rfl rfl)
theorem dX8_tuner_196 : decode cX8_tuner 196 = .ok (.iconst 1, 1) := dk_4 (dk_at dksX8_tuner_8 9 rfl rfl)
theorem dX8_tuner_197 : decode cX8_tuner 197 = .ok (.if_icmp .ne 8, 3) := dk_160 0 8 (dk_at dksX8_tuner_8 10 rfl rfl)
theorem dX8_tuner_200 : decode cX8_tuner 200 = .ok (.iload 5, 2) := dk_21 5 (dk_at dksX8_tuner_8 13 rfl rfl)
theorem dX8_tuner_202 : decode cX8_tuner 202 = .ok (.goto 5, 3) := dk_167 0 5 (dk_at dksX8_tuner_8 15 rfl rfl)
theorem dX8_tuner_205 : decode cX8_tuner 205 = .ok (.iload 6, 2) := dk_21 6 (dk_at dksX8_tuner_8 18 rfl rfl)
theorem dX8_tuner_207 : decode cX8_tuner 207 = .ok (.ireturn, 1) := dk_172 (dk_at dksX8_tuner_8 20 rfl rfl)
abbrev cX8_hisBy : ByteArray := prog_30_method_92_code
def yX8_hisBy : MethodName := ⟨RX8, "hisBy", "(III)I"⟩
def dkwX8_hisBy_0 : List UInt8 := [26, 4, 160, 0, 7, 3, 167, 0, 12, 27, 154, 0, 7, 28, 167, 0, 4, 2, 172]
abbrev dktX8_hisBy_0 : List UInt8 := dkwX8_hisBy_0 ++ []
theorem dksX8_hisBy_0 : cX8_hisBy.data.toList.drop 0 = dktX8_hisBy_0 := by decide +kernel
theorem dX8_hisBy_0 : decode cX8_hisBy 0 = .ok (.iload_n 0, 1) := dk_26 (dk_at dksX8_hisBy_0 0 rfl rfl)
theorem dX8_hisBy_1 : decode cX8_hisBy 1 = .ok (.iconst 1, 1) := dk_4 (dk_at dksX8_hisBy_0 1 rfl rfl)
theorem dX8_hisBy_2 : decode cX8_hisBy 2 = .ok (.if_icmp .ne 7, 3) := dk_160 0 7 (dk_at dksX8_hisBy_0 2 rfl rfl)
theorem dX8_hisBy_5 : decode cX8_hisBy 5 = .ok (.iconst 0, 1) := dk_3 (dk_at dksX8_hisBy_0 5 rfl rfl)
theorem dX8_hisBy_6 : decode cX8_hisBy 6 = .ok (.goto 12, 3) := dk_167 0 12 (dk_at dksX8_hisBy_0 6 rfl rfl)
theorem dX8_hisBy_9 : decode cX8_hisBy 9 = .ok (.iload_n 1, 1) := dk_27 (dk_at dksX8_hisBy_0 9 rfl rfl)
theorem dX8_hisBy_10 : decode cX8_hisBy 10 = .ok (.ifCond .ne 7, 3) := dk_154 0 7 (dk_at dksX8_hisBy_0 10 rfl rfl)
theorem dX8_hisBy_13 : decode cX8_hisBy 13 = .ok (.iload_n 2, 1) := dk_28 (dk_at dksX8_hisBy_0 13 rfl rfl)
theorem dX8_hisBy_14 : decode cX8_hisBy 14 = .ok (.goto 4, 3) := dk_167 0 4 (dk_at dksX8_hisBy_0 14 rfl rfl)
theorem dX8_hisBy_17 : decode cX8_hisBy 17 = .ok (.iconst (-1), 1) := dk_2 (dk_at dksX8_hisBy_0 17 rfl rfl)
theorem dX8_hisBy_18 : decode cX8_hisBy 18 = .ok (.ireturn, 1) := dk_172 (dk_at dksX8_hisBy_0 18 rfl rfl)
abbrev cX8_itsBy : ByteArray := prog_30_method_93_code
def yX8_itsBy : MethodName := ⟨RX8, "itsBy", "(IIII)I"⟩
def dkwX8_itsBy_0 : List UInt8 := [27, 4, 160, 0, 7, 3, 167, 0, 12, 26, 154, 0, 7, 28, 167, 0, 4, 29, 172]
abbrev dktX8_itsBy_0 : List UInt8 := dkwX8_itsBy_0 ++ []
theorem dksX8_itsBy_0 : cX8_itsBy.data.toList.drop 0 = dktX8_itsBy_0 := by decide +kernel
theorem dX8_itsBy_0 : decode cX8_itsBy 0 = .ok (.iload_n 1, 1) := dk_27 (dk_at dksX8_itsBy_0 0 rfl rfl)
theorem dX8_itsBy_1 : decode cX8_itsBy 1 = .ok (.iconst 1, 1) := dk_4 (dk_at dksX8_itsBy_0 1 rfl rfl)
theorem dX8_itsBy_2 : decode cX8_itsBy 2 = .ok (.if_icmp .ne 7, 3) := dk_160 0 7 (dk_at dksX8_itsBy_0 2 rfl rfl)
theorem dX8_itsBy_5 : decode cX8_itsBy 5 = .ok (.iconst 0, 1) := dk_3 (dk_at dksX8_itsBy_0 5 rfl rfl)
theorem dX8_itsBy_6 : decode cX8_itsBy 6 = .ok (.goto 12, 3) := dk_167 0 12 (dk_at dksX8_itsBy_0 6 rfl rfl)
theorem dX8_itsBy_9 : decode cX8_itsBy 9 = .ok (.iload_n 0, 1) := dk_26 (dk_at dksX8_itsBy_0 9 rfl rfl)
theorem dX8_itsBy_10 : decode cX8_itsBy 10 = .ok (.ifCond .ne 7, 3) := dk_154 0 7 (dk_at dksX8_itsBy_0 10 rfl rfl)
theorem dX8_itsBy_13 : decode cX8_itsBy 13 = .ok (.iload_n 2, 1) := dk_28 (dk_at dksX8_itsBy_0 13 rfl rfl)
theorem dX8_itsBy_14 : decode cX8_itsBy 14 = .ok (.goto 4, 3) := dk_167 0 4 (dk_at dksX8_itsBy_0 14 rfl rfl)
theorem dX8_itsBy_17 : decode cX8_itsBy 17 = .ok (.iload_n 3, 1) := dk_29 (dk_at dksX8_itsBy_0 17 rfl rfl)
theorem dX8_itsBy_18 : decode cX8_itsBy 18 = .ok (.ireturn, 1) := dk_172 (dk_at dksX8_itsBy_0 18 rfl rfl)
abbrev cX8_share : ByteArray := prog_30_method_96_code
def yX8_share : MethodName := ⟨RX8, "share", "(III)I"⟩
def dkwX8_share_5 : List UInt8 := [184, 0, 249, 167, 0, 4, 3, 172]
abbrev dktX8_share_5 : List UInt8 := dkwX8_share_5 ++ []
def dkwX8_share_4 : List UInt8 := [132, 4, 1, 167, 255, 233, 28, 27, 184, 1, 114, 153, 0, 19, 21, 4, 42, 180, 0, 49, 27, 50, 4, 46]
abbrev dktX8_share_4 : List UInt8 := dkwX8_share_4 ++ dktX8_share_5
def dkwX8_share_3 : List UInt8 := [54, 4, 21, 4, 16, 9, 162, 0, 22, 42, 28, 21, 4, 4, 96, 182, 1, 124, 29, 163, 0, 9]
abbrev dktX8_share_3 : List UInt8 := dkwX8_share_3 ++ dktX8_share_4
def dkwX8_share_2 : List UInt8 := [16, 99, 184, 0, 140, 154, 0, 7, 4, 167, 0, 4, 3, 5, 4, 182, 0, 189, 153, 0, 5, 3, 172, 3]
abbrev dktX8_share_2 : List UInt8 := dkwX8_share_2 ++ dktX8_share_3
def dkwX8_share_1 : List UInt8 := [154, 0, 45, 42, 28, 3, 4, 42, 180, 0, 23, 5, 46, 120, 4, 100, 184, 0, 140, 153, 0, 13, 29, 3]
abbrev dktX8_share_1 : List UInt8 := dkwX8_share_1 ++ dktX8_share_2
def dkwX8_share_0 : List UInt8 := [42, 3, 181, 0, 106, 42, 42, 27, 182, 1, 89, 154, 0, 7, 4, 167, 0, 4, 3, 4, 3, 182, 0, 189]
abbrev dktX8_share_0 : List UInt8 := dkwX8_share_0 ++ dktX8_share_1
theorem dksX8_share_0 : cX8_share.data.toList.drop 0 = dktX8_share_0 := by decide +kernel
theorem dksX8_share_1 : cX8_share.data.toList.drop 24 = dktX8_share_1 := dk_seg dksX8_share_0 24 rfl rfl
theorem dksX8_share_2 : cX8_share.data.toList.drop 48 = dktX8_share_2 := dk_seg dksX8_share_1 24 rfl rfl
theorem dksX8_share_3 : cX8_share.data.toList.drop 72 = dktX8_share_3 := dk_seg dksX8_share_2 24 rfl rfl
theorem dksX8_share_4 : cX8_share.data.toList.drop 94 = dktX8_share_4 := dk_seg dksX8_share_3 22 rfl rfl
theorem dksX8_share_5 : cX8_share.data.toList.drop 118 = dktX8_share_5 := dk_seg dksX8_share_4 24 rfl rfl
theorem dX8_share_0 : decode cX8_share 0 = .ok (.aload_n 0, 1) := dk_42 (dk_at dksX8_share_0 0 rfl rfl)
theorem dX8_share_1 : decode cX8_share 1 = .ok (.iconst 0, 1) := dk_3 (dk_at dksX8_share_0 1 rfl rfl)
theorem dX8_share_2 : decode cX8_share 2 = .ok (.putfield 106, 3) := dk_181 0 106 (dk_at dksX8_share_0 2 rfl rfl)
theorem dX8_share_5 : decode cX8_share 5 = .ok (.aload_n 0, 1) := dk_42 (dk_at dksX8_share_0 5 rfl rfl)
theorem dX8_share_6 : decode cX8_share 6 = .ok (.aload_n 0, 1) := dk_42 (dk_at dksX8_share_0 6 rfl rfl)
theorem dX8_share_7 : decode cX8_share 7 = .ok (.iload_n 1, 1) := dk_27 (dk_at dksX8_share_0 7 rfl rfl)
theorem dX8_share_8 : decode cX8_share 8 = .ok (.invokevirtual 345, 3) := dk_182 1 89 (dk_at dksX8_share_0 8 rfl rfl)
theorem dX8_share_11 : decode cX8_share 11 = .ok (.ifCond .ne 7, 3) := dk_154 0 7 (dk_at dksX8_share_0 11 rfl rfl)
theorem dX8_share_14 : decode cX8_share 14 = .ok (.iconst 1, 1) := dk_4 (dk_at dksX8_share_0 14 rfl rfl)
theorem dX8_share_15 : decode cX8_share 15 = .ok (.goto 4, 3) := dk_167 0 4 (dk_at dksX8_share_0 15 rfl rfl)
theorem dX8_share_18 : decode cX8_share 18 = .ok (.iconst 0, 1) := dk_3 (dk_at dksX8_share_0 18 rfl rfl)
theorem dX8_share_19 : decode cX8_share 19 = .ok (.iconst 1, 1) := dk_4 (dk_at dksX8_share_0 19 rfl rfl)
theorem dX8_share_20 : decode cX8_share 20 = .ok (.iconst 0, 1) := dk_3 (dk_at dksX8_share_0 20 rfl rfl)
theorem dX8_share_21 : decode cX8_share 21 = .ok (.invokevirtual 189, 3) := dk_182 0 189 (dk_at dksX8_share_0 21 rfl rfl)
theorem dX8_share_24 : decode cX8_share 24 = .ok (.ifCond .ne 45, 3) := dk_154 0 45 (dk_at dksX8_share_1 0 rfl rfl)
theorem dX8_share_27 : decode cX8_share 27 = .ok (.aload_n 0, 1) := dk_42 (dk_at dksX8_share_1 3 rfl rfl)
theorem dX8_share_28 : decode cX8_share 28 = .ok (.iload_n 2, 1) := dk_28 (dk_at dksX8_share_1 4 rfl rfl)
theorem dX8_share_29 : decode cX8_share 29 = .ok (.iconst 0, 1) := dk_3 (dk_at dksX8_share_1 5 rfl rfl)
theorem dX8_share_30 : decode cX8_share 30 = .ok (.iconst 1, 1) := dk_4 (dk_at dksX8_share_1 6 rfl rfl)
theorem dX8_share_31 : decode cX8_share 31 = .ok (.aload_n 0, 1) := dk_42 (dk_at dksX8_share_1 7 rfl rfl)
theorem dX8_share_32 : decode cX8_share 32 = .ok (.getfield 23, 3) := dk_180 0 23 (dk_at dksX8_share_1 8 rfl rfl)
theorem dX8_share_35 : decode cX8_share 35 = .ok (.iconst 2, 1) := dk_5 (dk_at dksX8_share_1 11 rfl rfl)
theorem dX8_share_36 : decode cX8_share 36 = .ok (.iaload, 1) := dk_46 (dk_at dksX8_share_1 12 rfl rfl)
theorem dX8_share_37 : decode cX8_share 37 = .ok (.ishl, 1) := dk_120 (dk_at dksX8_share_1 13 rfl rfl)
theorem dX8_share_38 : decode cX8_share 38 = .ok (.iconst 1, 1) := dk_4 (dk_at dksX8_share_1 14 rfl rfl)
theorem dX8_share_39 : decode cX8_share 39 = .ok (.isub, 1) := dk_100 (dk_at dksX8_share_1 15 rfl rfl)
theorem dX8_share_40 : decode cX8_share 40 = .ok (.invokestatic 140, 3) := dk_184 0 140 (dk_at dksX8_share_1 16 rfl rfl)
theorem dX8_share_43 : decode cX8_share 43 = .ok (.ifCond .eq 13, 3) := dk_153 0 13 (dk_at dksX8_share_1 19 rfl rfl)
theorem dX8_share_46 : decode cX8_share 46 = .ok (.iload_n 3, 1) := dk_29 (dk_at dksX8_share_1 22 rfl rfl)
theorem dX8_share_47 : decode cX8_share 47 = .ok (.iconst 0, 1) := dk_3 (dk_at dksX8_share_1 23 rfl rfl)
theorem dX8_share_48 : decode cX8_share 48 = .ok (.bipush 99, 2) := dk_16 99 (dk_at dksX8_share_2 0 rfl rfl)
theorem dX8_share_50 : decode cX8_share 50 = .ok (.invokestatic 140, 3) := dk_184 0 140 (dk_at dksX8_share_2 2 rfl rfl)
theorem dX8_share_53 : decode cX8_share 53 = .ok (.ifCond .ne 7, 3) := dk_154 0 7 (dk_at dksX8_share_2 5 rfl rfl)
theorem dX8_share_56 : decode cX8_share 56 = .ok (.iconst 1, 1) := dk_4 (dk_at dksX8_share_2 8 rfl rfl)
theorem dX8_share_57 : decode cX8_share 57 = .ok (.goto 4, 3) := dk_167 0 4 (dk_at dksX8_share_2 9 rfl rfl)
theorem dX8_share_60 : decode cX8_share 60 = .ok (.iconst 0, 1) := dk_3 (dk_at dksX8_share_2 12 rfl rfl)
theorem dX8_share_61 : decode cX8_share 61 = .ok (.iconst 2, 1) := dk_5 (dk_at dksX8_share_2 13 rfl rfl)
theorem dX8_share_62 : decode cX8_share 62 = .ok (.iconst 1, 1) := dk_4 (dk_at dksX8_share_2 14 rfl rfl)
theorem dX8_share_63 : decode cX8_share 63 = .ok (.invokevirtual 189, 3) := dk_182 0 189 (dk_at dksX8_share_2 15 rfl rfl)
theorem dX8_share_66 : decode cX8_share 66 = .ok (.ifCond .eq 5, 3) := dk_153 0 5 (dk_at dksX8_share_2 18 rfl rfl)
theorem dX8_share_69 : decode cX8_share 69 = .ok (.iconst 0, 1) := dk_3 (dk_at dksX8_share_2 21 rfl rfl)
theorem dX8_share_70 : decode cX8_share 70 = .ok (.ireturn, 1) := dk_172 (dk_at dksX8_share_2 22 rfl rfl)
theorem dX8_share_71 : decode cX8_share 71 = .ok (.iconst 0, 1) := dk_3 (dk_at dksX8_share_2 23 rfl rfl)
theorem dX8_share_72 : decode cX8_share 72 = .ok (.istore 4, 2) := dk_54 4 (dk_at dksX8_share_3 0 rfl rfl)
theorem dX8_share_74 : decode cX8_share 74 = .ok (.iload 4, 2) := dk_21 4 (dk_at dksX8_share_3 2 rfl rfl)
theorem dX8_share_76 : decode cX8_share 76 = .ok (.bipush 9, 2) := dk_16 9 (dk_at dksX8_share_3 4 rfl rfl)
theorem dX8_share_78 : decode cX8_share 78 = .ok (.if_icmp .ge 22, 3) := dk_162 0 22 (dk_at dksX8_share_3 6 rfl rfl)
theorem dX8_share_81 : decode cX8_share 81 = .ok (.aload_n 0, 1) := dk_42 (dk_at dksX8_share_3 9 rfl rfl)
theorem dX8_share_82 : decode cX8_share 82 = .ok (.iload_n 2, 1) := dk_28 (dk_at dksX8_share_3 10 rfl rfl)
theorem dX8_share_83 : decode cX8_share 83 = .ok (.iload 4, 2) := dk_21 4 (dk_at dksX8_share_3 11 rfl rfl)
theorem dX8_share_85 : decode cX8_share 85 = .ok (.iconst 1, 1) := dk_4 (dk_at dksX8_share_3 13 rfl rfl)
theorem dX8_share_86 : decode cX8_share 86 = .ok (.iadd, 1) := dk_96 (dk_at dksX8_share_3 14 rfl rfl)
theorem dX8_share_87 : decode cX8_share 87 = .ok (.invokevirtual 380, 3) := dk_182 1 124 (dk_at dksX8_share_3 15 rfl rfl)
theorem dX8_share_90 : decode cX8_share 90 = .ok (.iload_n 3, 1) := dk_29 (dk_at dksX8_share_3 18 rfl rfl)
theorem dX8_share_91 : decode cX8_share 91 = .ok (.if_icmp .gt 9, 3) := dk_163 0 9 (dk_at dksX8_share_3 19 rfl rfl)
theorem dX8_share_94 : decode cX8_share 94 = .ok (.iinc 4 1, 3) := dk_132 4 1 (dk_at dksX8_share_4 0 rfl rfl)
theorem dX8_share_97 : decode cX8_share 97 = .ok (.goto (-23), 3) := dk_167 255 233 (dk_at dksX8_share_4 3 rfl rfl)
theorem dX8_share_100 : decode cX8_share 100 = .ok (.iload_n 2, 1) := dk_28 (dk_at dksX8_share_4 6 rfl rfl)
theorem dX8_share_101 : decode cX8_share 101 = .ok (.iload_n 1, 1) := dk_27 (dk_at dksX8_share_4 7 rfl rfl)
theorem dX8_share_102 : decode cX8_share 102 = .ok (.invokestatic 370, 3) := dk_184 1 114 (dk_at dksX8_share_4 8 rfl rfl)
theorem dX8_share_105 : decode cX8_share 105 = .ok (.ifCond .eq 19, 3) := dk_153 0 19 (dk_at dksX8_share_4 11 rfl rfl)
theorem dX8_share_108 : decode cX8_share 108 = .ok (.iload 4, 2) := dk_21 4 (dk_at dksX8_share_4 14 rfl rfl)
theorem dX8_share_110 : decode cX8_share 110 = .ok (.aload_n 0, 1) := dk_42 (dk_at dksX8_share_4 16 rfl rfl)
theorem dX8_share_111 : decode cX8_share 111 = .ok (.getfield 49, 3) := dk_180 0 49 (dk_at dksX8_share_4 17 rfl rfl)
theorem dX8_share_114 : decode cX8_share 114 = .ok (.iload_n 1, 1) := dk_27 (dk_at dksX8_share_4 20 rfl rfl)
theorem dX8_share_115 : decode cX8_share 115 = .ok (.aaload, 1) := dk_50 (dk_at dksX8_share_4 21 rfl rfl)
theorem dX8_share_116 : decode cX8_share 116 = .ok (.iconst 1, 1) := dk_4 (dk_at dksX8_share_4 22 rfl rfl)
theorem dX8_share_117 : decode cX8_share 117 = .ok (.iaload, 1) := dk_46 (dk_at dksX8_share_4 23 rfl rfl)
theorem dX8_share_118 : decode cX8_share 118 = .ok (.invokestatic 249, 3) := dk_184 0 249 (dk_at dksX8_share_5 0 rfl rfl)
theorem dX8_share_121 : decode cX8_share 121 = .ok (.goto 4, 3) := dk_167 0 4 (dk_at dksX8_share_5 3 rfl rfl)
theorem dX8_share_124 : decode cX8_share 124 = .ok (.iconst 0, 1) := dk_3 (dk_at dksX8_share_5 6 rfl rfl)
theorem dX8_share_125 : decode cX8_share 125 = .ok (.ireturn, 1) := dk_172 (dk_at dksX8_share_5 7 rfl rfl)
abbrev cX8_givenBy : ByteArray := prog_30_method_95_code
def yX8_givenBy : MethodName := ⟨RX8, "givenBy", "(II)I"⟩
def dkwX8_givenBy_2 : List UInt8 := [132, 4, 1, 167, 255, 213, 29, 172]
abbrev dktX8_givenBy_2 : List UInt8 := dkwX8_givenBy_2 ++ []
def dkwX8_givenBy_1 : List UInt8 := [153, 0, 19, 28, 42, 180, 0, 49, 21, 4, 50, 4, 46, 184, 0, 249, 167, 0, 4, 3, 96, 62]
abbrev dktX8_givenBy_1 : List UInt8 := dkwX8_givenBy_1 ++ dktX8_givenBy_2
def dkwX8_givenBy_0 : List UInt8 := [3, 62, 3, 54, 4, 21, 4, 42, 180, 0, 23, 5, 46, 162, 0, 38, 29, 27, 21, 4, 184, 1, 114]
abbrev dktX8_givenBy_0 : List UInt8 := dkwX8_givenBy_0 ++ dktX8_givenBy_1
theorem dksX8_givenBy_0 : cX8_givenBy.data.toList.drop 0 = dktX8_givenBy_0 := by decide +kernel
theorem dksX8_givenBy_1 : cX8_givenBy.data.toList.drop 23 = dktX8_givenBy_1 := dk_seg dksX8_givenBy_0 23 rfl rfl
theorem dksX8_givenBy_2 : cX8_givenBy.data.toList.drop 45 = dktX8_givenBy_2 := dk_seg dksX8_givenBy_1 22 rfl rfl
theorem dX8_givenBy_0 : decode cX8_givenBy 0 = .ok (.iconst 0, 1) := dk_3 (dk_at dksX8_givenBy_0 0 rfl rfl)
theorem dX8_givenBy_1 : decode cX8_givenBy 1 = .ok (.istore_n 3, 1) := dk_62 (dk_at dksX8_givenBy_0 1 rfl rfl)
theorem dX8_givenBy_2 : decode cX8_givenBy 2 = .ok (.iconst 0, 1) := dk_3 (dk_at dksX8_givenBy_0 2 rfl rfl)
theorem dX8_givenBy_3 : decode cX8_givenBy 3 = .ok (.istore 4, 2) := dk_54 4 (dk_at dksX8_givenBy_0 3 rfl rfl)
theorem dX8_givenBy_5 : decode cX8_givenBy 5 = .ok (.iload 4, 2) := dk_21 4 (dk_at dksX8_givenBy_0 5 rfl rfl)
theorem dX8_givenBy_7 : decode cX8_givenBy 7 = .ok (.aload_n 0, 1) := dk_42 (dk_at dksX8_givenBy_0 7 rfl rfl)
theorem dX8_givenBy_8 : decode cX8_givenBy 8 = .ok (.getfield 23, 3) := dk_180 0 23 (dk_at dksX8_givenBy_0 8 rfl rfl)
theorem dX8_givenBy_11 : decode cX8_givenBy 11 = .ok (.iconst 2, 1) := dk_5 (dk_at dksX8_givenBy_0 11 rfl rfl)
theorem dX8_givenBy_12 : decode cX8_givenBy 12 = .ok (.iaload, 1) := dk_46 (dk_at dksX8_givenBy_0 12 rfl rfl)
theorem dX8_givenBy_13 : decode cX8_givenBy 13 = .ok (.if_icmp .ge 38, 3) := dk_162 0 38 (dk_at dksX8_givenBy_0 13 rfl rfl)
theorem dX8_givenBy_16 : decode cX8_givenBy 16 = .ok (.iload_n 3, 1) := dk_29 (dk_at dksX8_givenBy_0 16 rfl rfl)
theorem dX8_givenBy_17 : decode cX8_givenBy 17 = .ok (.iload_n 1, 1) := dk_27 (dk_at dksX8_givenBy_0 17 rfl rfl)
theorem dX8_givenBy_18 : decode cX8_givenBy 18 = .ok (.iload 4, 2) := dk_21 4 (dk_at dksX8_givenBy_0 18 rfl rfl)
theorem dX8_givenBy_20 : decode cX8_givenBy 20 = .ok (.invokestatic 370, 3) := dk_184 1 114 (dk_at dksX8_givenBy_0 20 rfl rfl)
theorem dX8_givenBy_23 : decode cX8_givenBy 23 = .ok (.ifCond .eq 19, 3) := dk_153 0 19 (dk_at dksX8_givenBy_1 0 rfl rfl)
theorem dX8_givenBy_26 : decode cX8_givenBy 26 = .ok (.iload_n 2, 1) := dk_28 (dk_at dksX8_givenBy_1 3 rfl rfl)
theorem dX8_givenBy_27 : decode cX8_givenBy 27 = .ok (.aload_n 0, 1) := dk_42 (dk_at dksX8_givenBy_1 4 rfl rfl)
theorem dX8_givenBy_28 : decode cX8_givenBy 28 = .ok (.getfield 49, 3) := dk_180 0 49 (dk_at dksX8_givenBy_1 5 rfl rfl)
theorem dX8_givenBy_31 : decode cX8_givenBy 31 = .ok (.iload 4, 2) := dk_21 4 (dk_at dksX8_givenBy_1 8 rfl rfl)
theorem dX8_givenBy_33 : decode cX8_givenBy 33 = .ok (.aaload, 1) := dk_50 (dk_at dksX8_givenBy_1 10 rfl rfl)
theorem dX8_givenBy_34 : decode cX8_givenBy 34 = .ok (.iconst 1, 1) := dk_4 (dk_at dksX8_givenBy_1 11 rfl rfl)
theorem dX8_givenBy_35 : decode cX8_givenBy 35 = .ok (.iaload, 1) := dk_46 (dk_at dksX8_givenBy_1 12 rfl rfl)
theorem dX8_givenBy_36 : decode cX8_givenBy 36 = .ok (.invokestatic 249, 3) := dk_184 0 249 (dk_at dksX8_givenBy_1 13 rfl rfl)
theorem dX8_givenBy_39 : decode cX8_givenBy 39 = .ok (.goto 4, 3) := dk_167 0 4 (dk_at dksX8_givenBy_1 16 rfl rfl)
theorem dX8_givenBy_42 : decode cX8_givenBy 42 = .ok (.iconst 0, 1) := dk_3 (dk_at dksX8_givenBy_1 19 rfl rfl)
theorem dX8_givenBy_43 : decode cX8_givenBy 43 = .ok (.iadd, 1) := dk_96 (dk_at dksX8_givenBy_1 20 rfl rfl)
theorem dX8_givenBy_44 : decode cX8_givenBy 44 = .ok (.istore_n 3, 1) := dk_62 (dk_at dksX8_givenBy_1 21 rfl rfl)
theorem dX8_givenBy_45 : decode cX8_givenBy 45 = .ok (.iinc 4 1, 3) := dk_132 4 1 (dk_at dksX8_givenBy_2 0 rfl rfl)
theorem dX8_givenBy_48 : decode cX8_givenBy 48 = .ok (.goto (-43), 3) := dk_167 255 213 (dk_at dksX8_givenBy_2 3 rfl rfl)
theorem dX8_givenBy_51 : decode cX8_givenBy 51 = .ok (.iload_n 3, 1) := dk_29 (dk_at dksX8_givenBy_2 6 rfl rfl)
theorem dX8_givenBy_52 : decode cX8_givenBy 52 = .ok (.ireturn, 1) := dk_172 (dk_at dksX8_givenBy_2 7 rfl rfl)
abbrev cX8_those : ByteArray := prog_30_method_97_code
def yX8_those : MethodName := ⟨RX8, "those", "(I)I"⟩
def dkwX8_those_3 : List UInt8 := [167, 255, 220, 28, 172]
abbrev dktX8_those_3 : List UInt8 := dkwX8_those_3 ++ []
def dkwX8_those_2 : List UInt8 := [180, 0, 73, 29, 182, 1, 70, 27, 160, 0, 9, 4, 29, 120, 167, 0, 4, 3, 128, 61, 132, 3, 1]
abbrev dktX8_those_2 : List UInt8 := dkwX8_those_2 ++ dktX8_those_3
def dkwX8_those_1 : List UInt8 := [153, 0, 5, 3, 172, 3, 61, 3, 62, 29, 42, 180, 0, 23, 3, 46, 162, 0, 32, 28, 42, 42]
abbrev dktX8_those_1 : List UInt8 := dkwX8_those_1 ++ dktX8_those_2
def dkwX8_those_0 : List UInt8 := [42, 3, 181, 0, 106, 42, 27, 184, 1, 86, 154, 0, 7, 4, 167, 0, 4, 3, 4, 4, 182, 0, 189]
abbrev dktX8_those_0 : List UInt8 := dkwX8_those_0 ++ dktX8_those_1
theorem dksX8_those_0 : cX8_those.data.toList.drop 0 = dktX8_those_0 := by decide +kernel
theorem dksX8_those_1 : cX8_those.data.toList.drop 23 = dktX8_those_1 := dk_seg dksX8_those_0 23 rfl rfl
theorem dksX8_those_2 : cX8_those.data.toList.drop 45 = dktX8_those_2 := dk_seg dksX8_those_1 22 rfl rfl
theorem dksX8_those_3 : cX8_those.data.toList.drop 68 = dktX8_those_3 := dk_seg dksX8_those_2 23 rfl rfl
theorem dX8_those_0 : decode cX8_those 0 = .ok (.aload_n 0, 1) := dk_42 (dk_at dksX8_those_0 0 rfl rfl)
theorem dX8_those_1 : decode cX8_those 1 = .ok (.iconst 0, 1) := dk_3 (dk_at dksX8_those_0 1 rfl rfl)
theorem dX8_those_2 : decode cX8_those 2 = .ok (.putfield 106, 3) := dk_181 0 106 (dk_at dksX8_those_0 2 rfl rfl)
theorem dX8_those_5 : decode cX8_those 5 = .ok (.aload_n 0, 1) := dk_42 (dk_at dksX8_those_0 5 rfl rfl)
theorem dX8_those_6 : decode cX8_those 6 = .ok (.iload_n 1, 1) := dk_27 (dk_at dksX8_those_0 6 rfl rfl)
theorem dX8_those_7 : decode cX8_those 7 = .ok (.invokestatic 342, 3) := dk_184 1 86 (dk_at dksX8_those_0 7 rfl rfl)
theorem dX8_those_10 : decode cX8_those 10 = .ok (.ifCond .ne 7, 3) := dk_154 0 7 (dk_at dksX8_those_0 10 rfl rfl)
theorem dX8_those_13 : decode cX8_those 13 = .ok (.iconst 1, 1) := dk_4 (dk_at dksX8_those_0 13 rfl rfl)
theorem dX8_those_14 : decode cX8_those 14 = .ok (.goto 4, 3) := dk_167 0 4 (dk_at dksX8_those_0 14 rfl rfl)
theorem dX8_those_17 : decode cX8_those 17 = .ok (.iconst 0, 1) := dk_3 (dk_at dksX8_those_0 17 rfl rfl)
theorem dX8_those_18 : decode cX8_those 18 = .ok (.iconst 1, 1) := dk_4 (dk_at dksX8_those_0 18 rfl rfl)
theorem dX8_those_19 : decode cX8_those 19 = .ok (.iconst 1, 1) := dk_4 (dk_at dksX8_those_0 19 rfl rfl)
theorem dX8_those_20 : decode cX8_those 20 = .ok (.invokevirtual 189, 3) := dk_182 0 189 (dk_at dksX8_those_0 20 rfl rfl)
theorem dX8_those_23 : decode cX8_those 23 = .ok (.ifCond .eq 5, 3) := dk_153 0 5 (dk_at dksX8_those_1 0 rfl rfl)
theorem dX8_those_26 : decode cX8_those 26 = .ok (.iconst 0, 1) := dk_3 (dk_at dksX8_those_1 3 rfl rfl)
theorem dX8_those_27 : decode cX8_those 27 = .ok (.ireturn, 1) := dk_172 (dk_at dksX8_those_1 4 rfl rfl)
theorem dX8_those_28 : decode cX8_those 28 = .ok (.iconst 0, 1) := dk_3 (dk_at dksX8_those_1 5 rfl rfl)
theorem dX8_those_29 : decode cX8_those 29 = .ok (.istore_n 2, 1) := dk_61 (dk_at dksX8_those_1 6 rfl rfl)
theorem dX8_those_30 : decode cX8_those 30 = .ok (.iconst 0, 1) := dk_3 (dk_at dksX8_those_1 7 rfl rfl)
theorem dX8_those_31 : decode cX8_those 31 = .ok (.istore_n 3, 1) := dk_62 (dk_at dksX8_those_1 8 rfl rfl)
theorem dX8_those_32 : decode cX8_those 32 = .ok (.iload_n 3, 1) := dk_29 (dk_at dksX8_those_1 9 rfl rfl)
theorem dX8_those_33 : decode cX8_those 33 = .ok (.aload_n 0, 1) := dk_42 (dk_at dksX8_those_1 10 rfl rfl)
theorem dX8_those_34 : decode cX8_those 34 = .ok (.getfield 23, 3) := dk_180 0 23 (dk_at dksX8_those_1 11 rfl rfl)
theorem dX8_those_37 : decode cX8_those 37 = .ok (.iconst 0, 1) := dk_3 (dk_at dksX8_those_1 14 rfl rfl)
theorem dX8_those_38 : decode cX8_those 38 = .ok (.iaload, 1) := dk_46 (dk_at dksX8_those_1 15 rfl rfl)
theorem dX8_those_39 : decode cX8_those 39 = .ok (.if_icmp .ge 32, 3) := dk_162 0 32 (dk_at dksX8_those_1 16 rfl rfl)
theorem dX8_those_42 : decode cX8_those 42 = .ok (.iload_n 2, 1) := dk_28 (dk_at dksX8_those_1 19 rfl rfl)
theorem dX8_those_43 : decode cX8_those 43 = .ok (.aload_n 0, 1) := dk_42 (dk_at dksX8_those_1 20 rfl rfl)
theorem dX8_those_44 : decode cX8_those 44 = .ok (.aload_n 0, 1) := dk_42 (dk_at dksX8_those_1 21 rfl rfl)
theorem dX8_those_45 : decode cX8_those 45 = .ok (.getfield 73, 3) := dk_180 0 73 (dk_at dksX8_those_2 0 rfl rfl)
theorem dX8_those_48 : decode cX8_those 48 = .ok (.iload_n 3, 1) := dk_29 (dk_at dksX8_those_2 3 rfl rfl)
theorem dX8_those_49 : decode cX8_those 49 = .ok (.invokevirtual 326, 3) := dk_182 1 70 (dk_at dksX8_those_2 4 rfl rfl)
theorem dX8_those_52 : decode cX8_those 52 = .ok (.iload_n 1, 1) := dk_27 (dk_at dksX8_those_2 7 rfl rfl)
theorem dX8_those_53 : decode cX8_those 53 = .ok (.if_icmp .ne 9, 3) := dk_160 0 9 (dk_at dksX8_those_2 8 rfl rfl)
theorem dX8_those_56 : decode cX8_those 56 = .ok (.iconst 1, 1) := dk_4 (dk_at dksX8_those_2 11 rfl rfl)
theorem dX8_those_57 : decode cX8_those 57 = .ok (.iload_n 3, 1) := dk_29 (dk_at dksX8_those_2 12 rfl rfl)
theorem dX8_those_58 : decode cX8_those 58 = .ok (.ishl, 1) := dk_120 (dk_at dksX8_those_2 13 rfl rfl)
theorem dX8_those_59 : decode cX8_those 59 = .ok (.goto 4, 3) := dk_167 0 4 (dk_at dksX8_those_2 14 rfl rfl)
theorem dX8_those_62 : decode cX8_those 62 = .ok (.iconst 0, 1) := dk_3 (dk_at dksX8_those_2 17 rfl rfl)
theorem dX8_those_63 : decode cX8_those 63 = .ok (.ior, 1) := dk_128 (dk_at dksX8_those_2 18 rfl rfl)
theorem dX8_those_64 : decode cX8_those 64 = .ok (.istore_n 2, 1) := dk_61 (dk_at dksX8_those_2 19 rfl rfl)
theorem dX8_those_65 : decode cX8_those 65 = .ok (.iinc 3 1, 3) := dk_132 3 1 (dk_at dksX8_those_2 20 rfl rfl)
theorem dX8_those_68 : decode cX8_those 68 = .ok (.goto (-36), 3) := dk_167 255 220 (dk_at dksX8_those_3 0 rfl rfl)
theorem dX8_those_71 : decode cX8_those 71 = .ok (.iload_n 2, 1) := dk_28 (dk_at dksX8_those_3 3 rfl rfl)
theorem dX8_those_72 : decode cX8_those 72 = .ok (.ireturn, 1) := dk_172 (dk_at dksX8_those_3 4 rfl rfl)
abbrev cX8_loudest : ByteArray := prog_30_method_98_code
def yX8_loudest : MethodName := ⟨RX8, "loudest", "(I)I"⟩
def dkwX8_loudest_4 : List UInt8 := [132, 4, 1, 167, 255, 197, 27, 154, 0, 7, 28, 167, 0, 4, 29, 172]
abbrev dktX8_loudest_4 : List UInt8 := dkwX8_loudest_4 ++ []
def dkwX8_loudest_3 : List UInt8 := [182, 1, 30, 29, 163, 0, 6, 167, 0, 17, 21, 4, 61, 42, 42, 180, 0, 73, 21, 4, 182, 1, 30, 62]
abbrev dktX8_loudest_3 : List UInt8 := dkwX8_loudest_3 ++ dktX8_loudest_4
def dkwX8_loudest_2 : List UInt8 := [162, 0, 54, 42, 180, 0, 73, 16, 80, 21, 4, 96, 46, 2, 159, 0, 34, 42, 42, 180, 0, 73, 21, 4]
abbrev dktX8_loudest_2 : List UInt8 := dkwX8_loudest_2 ++ dktX8_loudest_3
def dkwX8_loudest_1 : List UInt8 := [182, 0, 189, 153, 0, 5, 3, 172, 2, 61, 2, 62, 3, 54, 4, 21, 4, 42, 180, 0, 23, 5, 46]
abbrev dktX8_loudest_1 : List UInt8 := dkwX8_loudest_1 ++ dktX8_loudest_2
def dkwX8_loudest_0 : List UInt8 := [42, 3, 181, 0, 106, 42, 27, 3, 4, 184, 0, 140, 154, 0, 7, 4, 167, 0, 4, 3, 4, 4]
abbrev dktX8_loudest_0 : List UInt8 := dkwX8_loudest_0 ++ dktX8_loudest_1
theorem dksX8_loudest_0 : cX8_loudest.data.toList.drop 0 = dktX8_loudest_0 := by decide +kernel
theorem dksX8_loudest_1 : cX8_loudest.data.toList.drop 22 = dktX8_loudest_1 := dk_seg dksX8_loudest_0 22 rfl rfl
theorem dksX8_loudest_2 : cX8_loudest.data.toList.drop 45 = dktX8_loudest_2 := dk_seg dksX8_loudest_1 23 rfl rfl
theorem dksX8_loudest_3 : cX8_loudest.data.toList.drop 69 = dktX8_loudest_3 := dk_seg dksX8_loudest_2 24 rfl rfl
theorem dksX8_loudest_4 : cX8_loudest.data.toList.drop 93 = dktX8_loudest_4 := dk_seg dksX8_loudest_3 24 rfl rfl
theorem dX8_loudest_0 : decode cX8_loudest 0 = .ok (.aload_n 0, 1) := dk_42 (dk_at dksX8_loudest_0 0 rfl rfl)
theorem dX8_loudest_1 : decode cX8_loudest 1 = .ok (.iconst 0, 1) := dk_3 (dk_at dksX8_loudest_0 1 rfl rfl)
theorem dX8_loudest_2 : decode cX8_loudest 2 = .ok (.putfield 106, 3) := dk_181 0 106 (dk_at dksX8_loudest_0 2 rfl rfl)
theorem dX8_loudest_5 : decode cX8_loudest 5 = .ok (.aload_n 0, 1) := dk_42 (dk_at dksX8_loudest_0 5 rfl rfl)
theorem dX8_loudest_6 : decode cX8_loudest 6 = .ok (.iload_n 1, 1) := dk_27 (dk_at dksX8_loudest_0 6 rfl rfl)
theorem dX8_loudest_7 : decode cX8_loudest 7 = .ok (.iconst 0, 1) := dk_3 (dk_at dksX8_loudest_0 7 rfl rfl)
theorem dX8_loudest_8 : decode cX8_loudest 8 = .ok (.iconst 1, 1) := dk_4 (dk_at dksX8_loudest_0 8 rfl rfl)
theorem dX8_loudest_9 : decode cX8_loudest 9 = .ok (.invokestatic 140, 3) := dk_184 0 140 (dk_at dksX8_loudest_0 9 rfl rfl)
theorem dX8_loudest_12 : decode cX8_loudest 12 = .ok (.ifCond .ne 7, 3) := dk_154 0 7 (dk_at dksX8_loudest_0 12 rfl rfl)
theorem dX8_loudest_15 : decode cX8_loudest 15 = .ok (.iconst 1, 1) := dk_4 (dk_at dksX8_loudest_0 15 rfl rfl)
theorem dX8_loudest_16 : decode cX8_loudest 16 = .ok (.goto 4, 3) := dk_167 0 4 (dk_at dksX8_loudest_0 16 rfl rfl)
theorem dX8_loudest_19 : decode cX8_loudest 19 = .ok (.iconst 0, 1) := dk_3 (dk_at dksX8_loudest_0 19 rfl rfl)
theorem dX8_loudest_20 : decode cX8_loudest 20 = .ok (.iconst 1, 1) := dk_4 (dk_at dksX8_loudest_0 20 rfl rfl)
theorem dX8_loudest_21 : decode cX8_loudest 21 = .ok (.iconst 1, 1) := dk_4 (dk_at dksX8_loudest_0 21 rfl rfl)
theorem dX8_loudest_22 : decode cX8_loudest 22 = .ok (.invokevirtual 189, 3) := dk_182 0 189 (dk_at dksX8_loudest_1 0 rfl rfl)
theorem dX8_loudest_25 : decode cX8_loudest 25 = .ok (.ifCond .eq 5, 3) := dk_153 0 5 (dk_at dksX8_loudest_1 3 rfl rfl)
theorem dX8_loudest_28 : decode cX8_loudest 28 = .ok (.iconst 0, 1) := dk_3 (dk_at dksX8_loudest_1 6 rfl rfl)
theorem dX8_loudest_29 : decode cX8_loudest 29 = .ok (.ireturn, 1) := dk_172 (dk_at dksX8_loudest_1 7 rfl rfl)
theorem dX8_loudest_30 : decode cX8_loudest 30 = .ok (.iconst (-1), 1) := dk_2 (dk_at dksX8_loudest_1 8 rfl rfl)
theorem dX8_loudest_31 : decode cX8_loudest 31 = .ok (.istore_n 2, 1) := dk_61 (dk_at dksX8_loudest_1 9 rfl rfl)
theorem dX8_loudest_32 : decode cX8_loudest 32 = .ok (.iconst (-1), 1) := dk_2 (dk_at dksX8_loudest_1 10 rfl rfl)
theorem dX8_loudest_33 : decode cX8_loudest 33 = .ok (.istore_n 3, 1) := dk_62 (dk_at dksX8_loudest_1 11 rfl rfl)
theorem dX8_loudest_34 : decode cX8_loudest 34 = .ok (.iconst 0, 1) := dk_3 (dk_at dksX8_loudest_1 12 rfl rfl)
theorem dX8_loudest_35 : decode cX8_loudest 35 = .ok (.istore 4, 2) := dk_54 4 (dk_at dksX8_loudest_1 13 rfl rfl)
theorem dX8_loudest_37 : decode cX8_loudest 37 = .ok (.iload 4, 2) := dk_21 4 (dk_at dksX8_loudest_1 15 rfl rfl)
theorem dX8_loudest_39 : decode cX8_loudest 39 = .ok (.aload_n 0, 1) := dk_42 (dk_at dksX8_loudest_1 17 rfl rfl)
theorem dX8_loudest_40 : decode cX8_loudest 40 = .ok (.getfield 23, 3) := dk_180 0 23 (dk_at dksX8_loudest_1 18 rfl rfl)
theorem dX8_loudest_43 : decode cX8_loudest 43 = .ok (.iconst 2, 1) := dk_5 (dk_at dksX8_loudest_1 21 rfl rfl)
theorem dX8_loudest_44 : decode cX8_loudest 44 = .ok (.iaload, 1) := dk_46 (dk_at dksX8_loudest_1 22 rfl rfl)
theorem dX8_loudest_45 : decode cX8_loudest 45 = .ok (.if_icmp .ge 54, 3) := dk_162 0 54 (dk_at dksX8_loudest_2 0 rfl rfl)
theorem dX8_loudest_48 : decode cX8_loudest 48 = .ok (.aload_n 0, 1) := dk_42 (dk_at dksX8_loudest_2 3 rfl rfl)
theorem dX8_loudest_49 : decode cX8_loudest 49 = .ok (.getfield 73, 3) := dk_180 0 73 (dk_at dksX8_loudest_2 4 rfl rfl)
theorem dX8_loudest_52 : decode cX8_loudest 52 = .ok (.bipush 80, 2) := dk_16 80 (dk_at dksX8_loudest_2 7 rfl rfl)
theorem dX8_loudest_54 : decode cX8_loudest 54 = .ok (.iload 4, 2) := dk_21 4 (dk_at dksX8_loudest_2 9 rfl rfl)
theorem dX8_loudest_56 : decode cX8_loudest 56 = .ok (.iadd, 1) := dk_96 (dk_at dksX8_loudest_2 11 rfl rfl)
theorem dX8_loudest_57 : decode cX8_loudest 57 = .ok (.iaload, 1) := dk_46 (dk_at dksX8_loudest_2 12 rfl rfl)
theorem dX8_loudest_58 : decode cX8_loudest 58 = .ok (.iconst (-1), 1) := dk_2 (dk_at dksX8_loudest_2 13 rfl rfl)
theorem dX8_loudest_59 : decode cX8_loudest 59 = .ok (.if_icmp .eq 34, 3) := dk_159 0 34 (dk_at dksX8_loudest_2 14 rfl rfl)
theorem dX8_loudest_62 : decode cX8_loudest 62 = .ok (.aload_n 0, 1) := dk_42 (dk_at dksX8_loudest_2 17 rfl rfl)
theorem dX8_loudest_63 : decode cX8_loudest 63 = .ok (.aload_n 0, 1) := dk_42 (dk_at dksX8_loudest_2 18 rfl rfl)
theorem dX8_loudest_64 : decode cX8_loudest 64 = .ok (.getfield 73, 3) := dk_180 0 73 (dk_at dksX8_loudest_2 19 rfl rfl)
theorem dX8_loudest_67 : decode cX8_loudest 67 = .ok (.iload 4, 2) := dk_21 4 (dk_at dksX8_loudest_2 22 rfl rfl)
theorem dX8_loudest_69 : decode cX8_loudest 69 = .ok (.invokevirtual 286, 3) := dk_182 1 30 (dk_at dksX8_loudest_3 0 rfl rfl)
theorem dX8_loudest_72 : decode cX8_loudest 72 = .ok (.iload_n 3, 1) := dk_29 (dk_at dksX8_loudest_3 3 rfl rfl)
theorem dX8_loudest_73 : decode cX8_loudest 73 = .ok (.if_icmp .gt 6, 3) := dk_163 0 6 (dk_at dksX8_loudest_3 4 rfl rfl)
theorem dX8_loudest_76 : decode cX8_loudest 76 = .ok (.goto 17, 3) := dk_167 0 17 (dk_at dksX8_loudest_3 7 rfl rfl)
theorem dX8_loudest_79 : decode cX8_loudest 79 = .ok (.iload 4, 2) := dk_21 4 (dk_at dksX8_loudest_3 10 rfl rfl)
theorem dX8_loudest_81 : decode cX8_loudest 81 = .ok (.istore_n 2, 1) := dk_61 (dk_at dksX8_loudest_3 12 rfl rfl)
theorem dX8_loudest_82 : decode cX8_loudest 82 = .ok (.aload_n 0, 1) := dk_42 (dk_at dksX8_loudest_3 13 rfl rfl)
theorem dX8_loudest_83 : decode cX8_loudest 83 = .ok (.aload_n 0, 1) := dk_42 (dk_at dksX8_loudest_3 14 rfl rfl)
theorem dX8_loudest_84 : decode cX8_loudest 84 = .ok (.getfield 73, 3) := dk_180 0 73 (dk_at dksX8_loudest_3 15 rfl rfl)
theorem dX8_loudest_87 : decode cX8_loudest 87 = .ok (.iload 4, 2) := dk_21 4 (dk_at dksX8_loudest_3 18 rfl rfl)
theorem dX8_loudest_89 : decode cX8_loudest 89 = .ok (.invokevirtual 286, 3) := dk_182 1 30 (dk_at dksX8_loudest_3 20 rfl rfl)
theorem dX8_loudest_92 : decode cX8_loudest 92 = .ok (.istore_n 3, 1) := dk_62 (dk_at dksX8_loudest_3 23 rfl rfl)
theorem dX8_loudest_93 : decode cX8_loudest 93 = .ok (.iinc 4 1, 3) := dk_132 4 1 (dk_at dksX8_loudest_4 0 rfl rfl)
theorem dX8_loudest_96 : decode cX8_loudest 96 = .ok (.goto (-59), 3) := dk_167 255 197 (dk_at dksX8_loudest_4 3 rfl rfl)
theorem dX8_loudest_99 : decode cX8_loudest 99 = .ok (.iload_n 1, 1) := dk_27 (dk_at dksX8_loudest_4 6 rfl rfl)
theorem dX8_loudest_100 : decode cX8_loudest 100 = .ok (.ifCond .ne 7, 3) := dk_154 0 7 (dk_at dksX8_loudest_4 7 rfl rfl)
theorem dX8_loudest_103 : decode cX8_loudest 103 = .ok (.iload_n 2, 1) := dk_28 (dk_at dksX8_loudest_4 10 rfl rfl)
theorem dX8_loudest_104 : decode cX8_loudest 104 = .ok (.goto 4, 3) := dk_167 0 4 (dk_at dksX8_loudest_4 11 rfl rfl)
theorem dX8_loudest_107 : decode cX8_loudest 107 = .ok (.iload_n 3, 1) := dk_29 (dk_at dksX8_loudest_4 14 rfl rfl)
theorem dX8_loudest_108 : decode cX8_loudest 108 = .ok (.ireturn, 1) := dk_172 (dk_at dksX8_loudest_4 15 rfl rfl)
abbrev cX8_quiet : ByteArray := prog_30_method_99_code
def yX8_quiet : MethodName := ⟨RX8, "quiet", "(I)I"⟩
def dkwX8_quiet_5 : List UInt8 := [167, 255, 185, 28, 172]
abbrev dktX8_quiet_5 : List UInt8 := dkwX8_quiet_5 ++ []
def dkwX8_quiet_4 : List UInt8 := [42, 180, 0, 76, 27, 182, 1, 73, 154, 0, 9, 4, 29, 120, 167, 0, 4, 3, 128, 61, 132, 3, 1]
abbrev dktX8_quiet_4 : List UInt8 := dkwX8_quiet_4 ++ dktX8_quiet_5
def dkwX8_quiet_3 : List UInt8 := [159, 0, 12, 21, 4, 27, 159, 0, 6, 167, 0, 35, 42, 180, 0, 76, 16, 80, 27, 96, 29, 79, 28, 42]
abbrev dktX8_quiet_3 : List UInt8 := dkwX8_quiet_3 ++ dktX8_quiet_4
def dkwX8_quiet_2 : List UInt8 := [180, 0, 23, 3, 46, 162, 0, 67, 42, 42, 180, 0, 73, 29, 182, 1, 37, 54, 4, 21, 4, 2]
abbrev dktX8_quiet_2 : List UInt8 := dkwX8_quiet_2 ++ dktX8_quiet_3
def dkwX8_quiet_1 : List UInt8 := [153, 0, 5, 3, 172, 3, 61, 42, 180, 0, 73, 42, 180, 0, 76, 184, 1, 63, 3, 62, 29, 42]
abbrev dktX8_quiet_1 : List UInt8 := dkwX8_quiet_1 ++ dktX8_quiet_2
def dkwX8_quiet_0 : List UInt8 := [42, 3, 181, 0, 106, 42, 42, 27, 182, 1, 89, 154, 0, 7, 4, 167, 0, 4, 3, 4, 3, 182, 0, 189]
abbrev dktX8_quiet_0 : List UInt8 := dkwX8_quiet_0 ++ dktX8_quiet_1
theorem dksX8_quiet_0 : cX8_quiet.data.toList.drop 0 = dktX8_quiet_0 := by decide +kernel
theorem dksX8_quiet_1 : cX8_quiet.data.toList.drop 24 = dktX8_quiet_1 := dk_seg dksX8_quiet_0 24 rfl rfl
theorem dksX8_quiet_2 : cX8_quiet.data.toList.drop 46 = dktX8_quiet_2 := dk_seg dksX8_quiet_1 22 rfl rfl
theorem dksX8_quiet_3 : cX8_quiet.data.toList.drop 68 = dktX8_quiet_3 := dk_seg dksX8_quiet_2 22 rfl rfl
theorem dksX8_quiet_4 : cX8_quiet.data.toList.drop 92 = dktX8_quiet_4 := dk_seg dksX8_quiet_3 24 rfl rfl
theorem dksX8_quiet_5 : cX8_quiet.data.toList.drop 115 = dktX8_quiet_5 := dk_seg dksX8_quiet_4 23 rfl rfl
theorem dX8_quiet_0 : decode cX8_quiet 0 = .ok (.aload_n 0, 1) := dk_42 (dk_at dksX8_quiet_0 0 rfl rfl)
theorem dX8_quiet_1 : decode cX8_quiet 1 = .ok (.iconst 0, 1) := dk_3 (dk_at dksX8_quiet_0 1 rfl rfl)
theorem dX8_quiet_2 : decode cX8_quiet 2 = .ok (.putfield 106, 3) := dk_181 0 106 (dk_at dksX8_quiet_0 2 rfl rfl)
theorem dX8_quiet_5 : decode cX8_quiet 5 = .ok (.aload_n 0, 1) := dk_42 (dk_at dksX8_quiet_0 5 rfl rfl)
theorem dX8_quiet_6 : decode cX8_quiet 6 = .ok (.aload_n 0, 1) := dk_42 (dk_at dksX8_quiet_0 6 rfl rfl)
theorem dX8_quiet_7 : decode cX8_quiet 7 = .ok (.iload_n 1, 1) := dk_27 (dk_at dksX8_quiet_0 7 rfl rfl)
theorem dX8_quiet_8 : decode cX8_quiet 8 = .ok (.invokevirtual 345, 3) := dk_182 1 89 (dk_at dksX8_quiet_0 8 rfl rfl)
theorem dX8_quiet_11 : decode cX8_quiet 11 = .ok (.ifCond .ne 7, 3) := dk_154 0 7 (dk_at dksX8_quiet_0 11 rfl rfl)
theorem dX8_quiet_14 : decode cX8_quiet 14 = .ok (.iconst 1, 1) := dk_4 (dk_at dksX8_quiet_0 14 rfl rfl)
theorem dX8_quiet_15 : decode cX8_quiet 15 = .ok (.goto 4, 3) := dk_167 0 4 (dk_at dksX8_quiet_0 15 rfl rfl)
theorem dX8_quiet_18 : decode cX8_quiet 18 = .ok (.iconst 0, 1) := dk_3 (dk_at dksX8_quiet_0 18 rfl rfl)
theorem dX8_quiet_19 : decode cX8_quiet 19 = .ok (.iconst 1, 1) := dk_4 (dk_at dksX8_quiet_0 19 rfl rfl)
theorem dX8_quiet_20 : decode cX8_quiet 20 = .ok (.iconst 0, 1) := dk_3 (dk_at dksX8_quiet_0 20 rfl rfl)
theorem dX8_quiet_21 : decode cX8_quiet 21 = .ok (.invokevirtual 189, 3) := dk_182 0 189 (dk_at dksX8_quiet_0 21 rfl rfl)
theorem dX8_quiet_24 : decode cX8_quiet 24 = .ok (.ifCond .eq 5, 3) := dk_153 0 5 (dk_at dksX8_quiet_1 0 rfl rfl)
theorem dX8_quiet_27 : decode cX8_quiet 27 = .ok (.iconst 0, 1) := dk_3 (dk_at dksX8_quiet_1 3 rfl rfl)
theorem dX8_quiet_28 : decode cX8_quiet 28 = .ok (.ireturn, 1) := dk_172 (dk_at dksX8_quiet_1 4 rfl rfl)
theorem dX8_quiet_29 : decode cX8_quiet 29 = .ok (.iconst 0, 1) := dk_3 (dk_at dksX8_quiet_1 5 rfl rfl)
theorem dX8_quiet_30 : decode cX8_quiet 30 = .ok (.istore_n 2, 1) := dk_61 (dk_at dksX8_quiet_1 6 rfl rfl)
theorem dX8_quiet_31 : decode cX8_quiet 31 = .ok (.aload_n 0, 1) := dk_42 (dk_at dksX8_quiet_1 7 rfl rfl)
theorem dX8_quiet_32 : decode cX8_quiet 32 = .ok (.getfield 73, 3) := dk_180 0 73 (dk_at dksX8_quiet_1 8 rfl rfl)
theorem dX8_quiet_35 : decode cX8_quiet 35 = .ok (.aload_n 0, 1) := dk_42 (dk_at dksX8_quiet_1 11 rfl rfl)
theorem dX8_quiet_36 : decode cX8_quiet 36 = .ok (.getfield 76, 3) := dk_180 0 76 (dk_at dksX8_quiet_1 12 rfl rfl)
theorem dX8_quiet_39 : decode cX8_quiet 39 = .ok (.invokestatic 319, 3) := dk_184 1 63 (dk_at dksX8_quiet_1 15 rfl rfl)
theorem dX8_quiet_42 : decode cX8_quiet 42 = .ok (.iconst 0, 1) := dk_3 (dk_at dksX8_quiet_1 18 rfl rfl)
theorem dX8_quiet_43 : decode cX8_quiet 43 = .ok (.istore_n 3, 1) := dk_62 (dk_at dksX8_quiet_1 19 rfl rfl)
theorem dX8_quiet_44 : decode cX8_quiet 44 = .ok (.iload_n 3, 1) := dk_29 (dk_at dksX8_quiet_1 20 rfl rfl)
theorem dX8_quiet_45 : decode cX8_quiet 45 = .ok (.aload_n 0, 1) := dk_42 (dk_at dksX8_quiet_1 21 rfl rfl)
theorem dX8_quiet_46 : decode cX8_quiet 46 = .ok (.getfield 23, 3) := dk_180 0 23 (dk_at dksX8_quiet_2 0 rfl rfl)
theorem dX8_quiet_49 : decode cX8_quiet 49 = .ok (.iconst 0, 1) := dk_3 (dk_at dksX8_quiet_2 3 rfl rfl)
theorem dX8_quiet_50 : decode cX8_quiet 50 = .ok (.iaload, 1) := dk_46 (dk_at dksX8_quiet_2 4 rfl rfl)
theorem dX8_quiet_51 : decode cX8_quiet 51 = .ok (.if_icmp .ge 67, 3) := dk_162 0 67 (dk_at dksX8_quiet_2 5 rfl rfl)
theorem dX8_quiet_54 : decode cX8_quiet 54 = .ok (.aload_n 0, 1) := dk_42 (dk_at dksX8_quiet_2 8 rfl rfl)
theorem dX8_quiet_55 : decode cX8_quiet 55 = .ok (.aload_n 0, 1) := dk_42 (dk_at dksX8_quiet_2 9 rfl rfl)
theorem dX8_quiet_56 : decode cX8_quiet 56 = .ok (.getfield 73, 3) := dk_180 0 73 (dk_at dksX8_quiet_2 10 rfl rfl)
theorem dX8_quiet_59 : decode cX8_quiet 59 = .ok (.iload_n 3, 1) := dk_29 (dk_at dksX8_quiet_2 13 rfl rfl)
theorem dX8_quiet_60 : decode cX8_quiet 60 = .ok (.invokevirtual 293, 3) := dk_182 1 37 (dk_at dksX8_quiet_2 14 rfl rfl)
theorem dX8_quiet_63 : decode cX8_quiet 63 = .ok (.istore 4, 2) := dk_54 4 (dk_at dksX8_quiet_2 17 rfl rfl)
theorem dX8_quiet_65 : decode cX8_quiet 65 = .ok (.iload 4, 2) := dk_21 4 (dk_at dksX8_quiet_2 19 rfl rfl)
theorem dX8_quiet_67 : decode cX8_quiet 67 = .ok (.iconst (-1), 1) := dk_2 (dk_at dksX8_quiet_2 21 rfl rfl)
theorem dX8_quiet_68 : decode cX8_quiet 68 = .ok (.if_icmp .eq 12, 3) := dk_159 0 12 (dk_at dksX8_quiet_3 0 rfl rfl)
theorem dX8_quiet_71 : decode cX8_quiet 71 = .ok (.iload 4, 2) := dk_21 4 (dk_at dksX8_quiet_3 3 rfl rfl)
theorem dX8_quiet_73 : decode cX8_quiet 73 = .ok (.iload_n 1, 1) := dk_27 (dk_at dksX8_quiet_3 5 rfl rfl)
theorem dX8_quiet_74 : decode cX8_quiet 74 = .ok (.if_icmp .eq 6, 3) := dk_159 0 6 (dk_at dksX8_quiet_3 6 rfl rfl)
theorem dX8_quiet_77 : decode cX8_quiet 77 = .ok (.goto 35, 3) := dk_167 0 35 (dk_at dksX8_quiet_3 9 rfl rfl)
theorem dX8_quiet_80 : decode cX8_quiet 80 = .ok (.aload_n 0, 1) := dk_42 (dk_at dksX8_quiet_3 12 rfl rfl)
theorem dX8_quiet_81 : decode cX8_quiet 81 = .ok (.getfield 76, 3) := dk_180 0 76 (dk_at dksX8_quiet_3 13 rfl rfl)
theorem dX8_quiet_84 : decode cX8_quiet 84 = .ok (.bipush 80, 2) := dk_16 80 (dk_at dksX8_quiet_3 16 rfl rfl)
theorem dX8_quiet_86 : decode cX8_quiet 86 = .ok (.iload_n 1, 1) := dk_27 (dk_at dksX8_quiet_3 18 rfl rfl)
theorem dX8_quiet_87 : decode cX8_quiet 87 = .ok (.iadd, 1) := dk_96 (dk_at dksX8_quiet_3 19 rfl rfl)
theorem dX8_quiet_88 : decode cX8_quiet 88 = .ok (.iload_n 3, 1) := dk_29 (dk_at dksX8_quiet_3 20 rfl rfl)
theorem dX8_quiet_89 : decode cX8_quiet 89 = .ok (.iastore, 1) := dk_79 (dk_at dksX8_quiet_3 21 rfl rfl)
theorem dX8_quiet_90 : decode cX8_quiet 90 = .ok (.iload_n 2, 1) := dk_28 (dk_at dksX8_quiet_3 22 rfl rfl)
theorem dX8_quiet_91 : decode cX8_quiet 91 = .ok (.aload_n 0, 1) := dk_42 (dk_at dksX8_quiet_3 23 rfl rfl)
theorem dX8_quiet_92 : decode cX8_quiet 92 = .ok (.aload_n 0, 1) := dk_42 (dk_at dksX8_quiet_4 0 rfl rfl)
theorem dX8_quiet_93 : decode cX8_quiet 93 = .ok (.getfield 76, 3) := dk_180 0 76 (dk_at dksX8_quiet_4 1 rfl rfl)
theorem dX8_quiet_96 : decode cX8_quiet 96 = .ok (.iload_n 1, 1) := dk_27 (dk_at dksX8_quiet_4 4 rfl rfl)
theorem dX8_quiet_97 : decode cX8_quiet 97 = .ok (.invokevirtual 329, 3) := dk_182 1 73 (dk_at dksX8_quiet_4 5 rfl rfl)
theorem dX8_quiet_100 : decode cX8_quiet 100 = .ok (.ifCond .ne 9, 3) := dk_154 0 9 (dk_at dksX8_quiet_4 8 rfl rfl)
theorem dX8_quiet_103 : decode cX8_quiet 103 = .ok (.iconst 1, 1) := dk_4 (dk_at dksX8_quiet_4 11 rfl rfl)
theorem dX8_quiet_104 : decode cX8_quiet 104 = .ok (.iload_n 3, 1) := dk_29 (dk_at dksX8_quiet_4 12 rfl rfl)
theorem dX8_quiet_105 : decode cX8_quiet 105 = .ok (.ishl, 1) := dk_120 (dk_at dksX8_quiet_4 13 rfl rfl)
theorem dX8_quiet_106 : decode cX8_quiet 106 = .ok (.goto 4, 3) := dk_167 0 4 (dk_at dksX8_quiet_4 14 rfl rfl)
theorem dX8_quiet_109 : decode cX8_quiet 109 = .ok (.iconst 0, 1) := dk_3 (dk_at dksX8_quiet_4 17 rfl rfl)
theorem dX8_quiet_110 : decode cX8_quiet 110 = .ok (.ior, 1) := dk_128 (dk_at dksX8_quiet_4 18 rfl rfl)
theorem dX8_quiet_111 : decode cX8_quiet 111 = .ok (.istore_n 2, 1) := dk_61 (dk_at dksX8_quiet_4 19 rfl rfl)
theorem dX8_quiet_112 : decode cX8_quiet 112 = .ok (.iinc 3 1, 3) := dk_132 3 1 (dk_at dksX8_quiet_4 20 rfl rfl)
theorem dX8_quiet_115 : decode cX8_quiet 115 = .ok (.goto (-71), 3) := dk_167 255 185 (dk_at dksX8_quiet_5 0 rfl rfl)
theorem dX8_quiet_118 : decode cX8_quiet 118 = .ok (.iload_n 2, 1) := dk_28 (dk_at dksX8_quiet_5 3 rfl rfl)
theorem dX8_quiet_119 : decode cX8_quiet 119 = .ok (.ireturn, 1) := dk_172 (dk_at dksX8_quiet_5 4 rfl rfl)
abbrev cX8_tunes : ByteArray := prog_30_method_100_code
def yX8_tunes : MethodName := ⟨RX8, "tunes", "(II)I"⟩
def dkwX8_tunes_3 : List UInt8 := [182, 1, 43, 154, 0, 5, 2, 172, 42, 42, 180, 0, 76, 27, 182, 1, 40, 172]
abbrev dktX8_tunes_3 : List UInt8 := dkwX8_tunes_3 ++ []
def dkwX8_tunes_2 : List UInt8 := [184, 1, 63, 42, 180, 0, 73, 16, 80, 27, 96, 46, 28, 159, 0, 18, 42, 42, 180, 0, 76, 27, 28]
abbrev dktX8_tunes_2 : List UInt8 := dkwX8_tunes_2 ++ dktX8_tunes_3
def dkwX8_tunes_1 : List UInt8 := [167, 0, 4, 3, 4, 3, 182, 0, 189, 153, 0, 5, 3, 172, 42, 180, 0, 73, 42, 180, 0, 76]
abbrev dktX8_tunes_1 : List UInt8 := dkwX8_tunes_1 ++ dktX8_tunes_2
def dkwX8_tunes_0 : List UInt8 := [42, 3, 181, 0, 106, 42, 42, 27, 182, 1, 89, 153, 0, 11, 42, 28, 182, 1, 83, 154, 0, 7, 4]
abbrev dktX8_tunes_0 : List UInt8 := dkwX8_tunes_0 ++ dktX8_tunes_1
theorem dksX8_tunes_0 : cX8_tunes.data.toList.drop 0 = dktX8_tunes_0 := by decide +kernel
theorem dksX8_tunes_1 : cX8_tunes.data.toList.drop 23 = dktX8_tunes_1 := dk_seg dksX8_tunes_0 23 rfl rfl
theorem dksX8_tunes_2 : cX8_tunes.data.toList.drop 45 = dktX8_tunes_2 := dk_seg dksX8_tunes_1 22 rfl rfl
theorem dksX8_tunes_3 : cX8_tunes.data.toList.drop 68 = dktX8_tunes_3 := dk_seg dksX8_tunes_2 23 rfl rfl
theorem dX8_tunes_0 : decode cX8_tunes 0 = .ok (.aload_n 0, 1) := dk_42 (dk_at dksX8_tunes_0 0 rfl rfl)
theorem dX8_tunes_1 : decode cX8_tunes 1 = .ok (.iconst 0, 1) := dk_3 (dk_at dksX8_tunes_0 1 rfl rfl)
theorem dX8_tunes_2 : decode cX8_tunes 2 = .ok (.putfield 106, 3) := dk_181 0 106 (dk_at dksX8_tunes_0 2 rfl rfl)
theorem dX8_tunes_5 : decode cX8_tunes 5 = .ok (.aload_n 0, 1) := dk_42 (dk_at dksX8_tunes_0 5 rfl rfl)
theorem dX8_tunes_6 : decode cX8_tunes 6 = .ok (.aload_n 0, 1) := dk_42 (dk_at dksX8_tunes_0 6 rfl rfl)
theorem dX8_tunes_7 : decode cX8_tunes 7 = .ok (.iload_n 1, 1) := dk_27 (dk_at dksX8_tunes_0 7 rfl rfl)
theorem dX8_tunes_8 : decode cX8_tunes 8 = .ok (.invokevirtual 345, 3) := dk_182 1 89 (dk_at dksX8_tunes_0 8 rfl rfl)
theorem dX8_tunes_11 : decode cX8_tunes 11 = .ok (.ifCond .eq 11, 3) := dk_153 0 11 (dk_at dksX8_tunes_0 11 rfl rfl)
theorem dX8_tunes_14 : decode cX8_tunes 14 = .ok (.aload_n 0, 1) := dk_42 (dk_at dksX8_tunes_0 14 rfl rfl)
theorem dX8_tunes_15 : decode cX8_tunes 15 = .ok (.iload_n 2, 1) := dk_28 (dk_at dksX8_tunes_0 15 rfl rfl)
theorem dX8_tunes_16 : decode cX8_tunes 16 = .ok (.invokevirtual 339, 3) := dk_182 1 83 (dk_at dksX8_tunes_0 16 rfl rfl)
theorem dX8_tunes_19 : decode cX8_tunes 19 = .ok (.ifCond .ne 7, 3) := dk_154 0 7 (dk_at dksX8_tunes_0 19 rfl rfl)
theorem dX8_tunes_22 : decode cX8_tunes 22 = .ok (.iconst 1, 1) := dk_4 (dk_at dksX8_tunes_0 22 rfl rfl)
theorem dX8_tunes_23 : decode cX8_tunes 23 = .ok (.goto 4, 3) := dk_167 0 4 (dk_at dksX8_tunes_1 0 rfl rfl)
theorem dX8_tunes_26 : decode cX8_tunes 26 = .ok (.iconst 0, 1) := dk_3 (dk_at dksX8_tunes_1 3 rfl rfl)
theorem dX8_tunes_27 : decode cX8_tunes 27 = .ok (.iconst 1, 1) := dk_4 (dk_at dksX8_tunes_1 4 rfl rfl)
theorem dX8_tunes_28 : decode cX8_tunes 28 = .ok (.iconst 0, 1) := dk_3 (dk_at dksX8_tunes_1 5 rfl rfl)
theorem dX8_tunes_29 : decode cX8_tunes 29 = .ok (.invokevirtual 189, 3) := dk_182 0 189 (dk_at dksX8_tunes_1 6 rfl rfl)
theorem dX8_tunes_32 : decode cX8_tunes 32 = .ok (.ifCond .eq 5, 3) := dk_153 0 5 (dk_at dksX8_tunes_1 9 rfl rfl)
theorem dX8_tunes_35 : decode cX8_tunes 35 = .ok (.iconst 0, 1) := dk_3 (dk_at dksX8_tunes_1 12 rfl rfl)
theorem dX8_tunes_36 : decode cX8_tunes 36 = .ok (.ireturn, 1) := dk_172 (dk_at dksX8_tunes_1 13 rfl rfl)
theorem dX8_tunes_37 : decode cX8_tunes 37 = .ok (.aload_n 0, 1) := dk_42 (dk_at dksX8_tunes_1 14 rfl rfl)
theorem dX8_tunes_38 : decode cX8_tunes 38 = .ok (.getfield 73, 3) := dk_180 0 73 (dk_at dksX8_tunes_1 15 rfl rfl)
theorem dX8_tunes_41 : decode cX8_tunes 41 = .ok (.aload_n 0, 1) := dk_42 (dk_at dksX8_tunes_1 18 rfl rfl)
theorem dX8_tunes_42 : decode cX8_tunes 42 = .ok (.getfield 76, 3) := dk_180 0 76 (dk_at dksX8_tunes_1 19 rfl rfl)
theorem dX8_tunes_45 : decode cX8_tunes 45 = .ok (.invokestatic 319, 3) := dk_184 1 63 (dk_at dksX8_tunes_2 0 rfl rfl)
theorem dX8_tunes_48 : decode cX8_tunes 48 = .ok (.aload_n 0, 1) := dk_42 (dk_at dksX8_tunes_2 3 rfl rfl)
theorem dX8_tunes_49 : decode cX8_tunes 49 = .ok (.getfield 73, 3) := dk_180 0 73 (dk_at dksX8_tunes_2 4 rfl rfl)
theorem dX8_tunes_52 : decode cX8_tunes 52 = .ok (.bipush 80, 2) := dk_16 80 (dk_at dksX8_tunes_2 7 rfl rfl)
theorem dX8_tunes_54 : decode cX8_tunes 54 = .ok (.iload_n 1, 1) := dk_27 (dk_at dksX8_tunes_2 9 rfl rfl)
theorem dX8_tunes_55 : decode cX8_tunes 55 = .ok (.iadd, 1) := dk_96 (dk_at dksX8_tunes_2 10 rfl rfl)
theorem dX8_tunes_56 : decode cX8_tunes 56 = .ok (.iaload, 1) := dk_46 (dk_at dksX8_tunes_2 11 rfl rfl)
theorem dX8_tunes_57 : decode cX8_tunes 57 = .ok (.iload_n 2, 1) := dk_28 (dk_at dksX8_tunes_2 12 rfl rfl)
theorem dX8_tunes_58 : decode cX8_tunes 58 = .ok (.if_icmp .eq 18, 3) := dk_159 0 18 (dk_at dksX8_tunes_2 13 rfl rfl)
theorem dX8_tunes_61 : decode cX8_tunes 61 = .ok (.aload_n 0, 1) := dk_42 (dk_at dksX8_tunes_2 16 rfl rfl)
theorem dX8_tunes_62 : decode cX8_tunes 62 = .ok (.aload_n 0, 1) := dk_42 (dk_at dksX8_tunes_2 17 rfl rfl)
theorem dX8_tunes_63 : decode cX8_tunes 63 = .ok (.getfield 76, 3) := dk_180 0 76 (dk_at dksX8_tunes_2 18 rfl rfl)
theorem dX8_tunes_66 : decode cX8_tunes 66 = .ok (.iload_n 1, 1) := dk_27 (dk_at dksX8_tunes_2 21 rfl rfl)
theorem dX8_tunes_67 : decode cX8_tunes 67 = .ok (.iload_n 2, 1) := dk_28 (dk_at dksX8_tunes_2 22 rfl rfl)
theorem dX8_tunes_68 : decode cX8_tunes 68 = .ok (.invokevirtual 299, 3) := dk_182 1 43 (dk_at dksX8_tunes_3 0 rfl rfl)
theorem dX8_tunes_71 : decode cX8_tunes 71 = .ok (.ifCond .ne 5, 3) := dk_154 0 5 (dk_at dksX8_tunes_3 3 rfl rfl)
theorem dX8_tunes_74 : decode cX8_tunes 74 = .ok (.iconst (-1), 1) := dk_2 (dk_at dksX8_tunes_3 6 rfl rfl)
theorem dX8_tunes_75 : decode cX8_tunes 75 = .ok (.ireturn, 1) := dk_172 (dk_at dksX8_tunes_3 7 rfl rfl)
theorem dX8_tunes_76 : decode cX8_tunes 76 = .ok (.aload_n 0, 1) := dk_42 (dk_at dksX8_tunes_3 8 rfl rfl)
theorem dX8_tunes_77 : decode cX8_tunes 77 = .ok (.aload_n 0, 1) := dk_42 (dk_at dksX8_tunes_3 9 rfl rfl)
theorem dX8_tunes_78 : decode cX8_tunes 78 = .ok (.getfield 76, 3) := dk_180 0 76 (dk_at dksX8_tunes_3 10 rfl rfl)
theorem dX8_tunes_81 : decode cX8_tunes 81 = .ok (.iload_n 1, 1) := dk_27 (dk_at dksX8_tunes_3 13 rfl rfl)
theorem dX8_tunes_82 : decode cX8_tunes 82 = .ok (.invokevirtual 296, 3) := dk_182 1 40 (dk_at dksX8_tunes_3 14 rfl rfl)
theorem dX8_tunes_85 : decode cX8_tunes 85 = .ok (.ireturn, 1) := dk_172 (dk_at dksX8_tunes_3 17 rfl rfl)
abbrev cX8_oldest : ByteArray := prog_30_method_101_code
def yX8_oldest : MethodName := ⟨RX8, "oldest", "(I)I"⟩
def dkwX8_oldest_4 : List UInt8 := [62, 132, 4, 1, 167, 255, 197, 27, 154, 0, 7, 28, 167, 0, 4, 29, 172]
abbrev dktX8_oldest_4 : List UInt8 := dkwX8_oldest_4 ++ []
def dkwX8_oldest_3 : List UInt8 := [21, 4, 96, 46, 29, 163, 0, 6, 167, 0, 17, 21, 4, 61, 42, 180, 0, 73, 16, 92, 21, 4, 96, 46]
abbrev dktX8_oldest_3 : List UInt8 := dkwX8_oldest_3 ++ dktX8_oldest_4
def dkwX8_oldest_2 : List UInt8 := [162, 0, 54, 42, 180, 0, 73, 16, 80, 21, 4, 96, 46, 2, 159, 0, 34, 42, 180, 0, 73, 16, 92]
abbrev dktX8_oldest_2 : List UInt8 := dkwX8_oldest_2 ++ dktX8_oldest_3
def dkwX8_oldest_1 : List UInt8 := [182, 0, 189, 153, 0, 5, 3, 172, 2, 61, 2, 62, 3, 54, 4, 21, 4, 42, 180, 0, 23, 5, 46]
abbrev dktX8_oldest_1 : List UInt8 := dkwX8_oldest_1 ++ dktX8_oldest_2
def dkwX8_oldest_0 : List UInt8 := [42, 3, 181, 0, 106, 42, 27, 3, 4, 184, 0, 140, 154, 0, 7, 4, 167, 0, 4, 3, 4, 4]
abbrev dktX8_oldest_0 : List UInt8 := dkwX8_oldest_0 ++ dktX8_oldest_1
theorem dksX8_oldest_0 : cX8_oldest.data.toList.drop 0 = dktX8_oldest_0 := by decide +kernel
theorem dksX8_oldest_1 : cX8_oldest.data.toList.drop 22 = dktX8_oldest_1 := dk_seg dksX8_oldest_0 22 rfl rfl
theorem dksX8_oldest_2 : cX8_oldest.data.toList.drop 45 = dktX8_oldest_2 := dk_seg dksX8_oldest_1 23 rfl rfl
theorem dksX8_oldest_3 : cX8_oldest.data.toList.drop 68 = dktX8_oldest_3 := dk_seg dksX8_oldest_2 23 rfl rfl
theorem dksX8_oldest_4 : cX8_oldest.data.toList.drop 92 = dktX8_oldest_4 := dk_seg dksX8_oldest_3 24 rfl rfl
theorem dX8_oldest_0 : decode cX8_oldest 0 = .ok (.aload_n 0, 1) := dk_42 (dk_at dksX8_oldest_0 0 rfl rfl)
theorem dX8_oldest_1 : decode cX8_oldest 1 = .ok (.iconst 0, 1) := dk_3 (dk_at dksX8_oldest_0 1 rfl rfl)
theorem dX8_oldest_2 : decode cX8_oldest 2 = .ok (.putfield 106, 3) := dk_181 0 106 (dk_at dksX8_oldest_0 2 rfl rfl)
theorem dX8_oldest_5 : decode cX8_oldest 5 = .ok (.aload_n 0, 1) := dk_42 (dk_at dksX8_oldest_0 5 rfl rfl)
theorem dX8_oldest_6 : decode cX8_oldest 6 = .ok (.iload_n 1, 1) := dk_27 (dk_at dksX8_oldest_0 6 rfl rfl)
theorem dX8_oldest_7 : decode cX8_oldest 7 = .ok (.iconst 0, 1) := dk_3 (dk_at dksX8_oldest_0 7 rfl rfl)
theorem dX8_oldest_8 : decode cX8_oldest 8 = .ok (.iconst 1, 1) := dk_4 (dk_at dksX8_oldest_0 8 rfl rfl)
theorem dX8_oldest_9 : decode cX8_oldest 9 = .ok (.invokestatic 140, 3) := dk_184 0 140 (dk_at dksX8_oldest_0 9 rfl rfl)
theorem dX8_oldest_12 : decode cX8_oldest 12 = .ok (.ifCond .ne 7, 3) := dk_154 0 7 (dk_at dksX8_oldest_0 12 rfl rfl)
theorem dX8_oldest_15 : decode cX8_oldest 15 = .ok (.iconst 1, 1) := dk_4 (dk_at dksX8_oldest_0 15 rfl rfl)
theorem dX8_oldest_16 : decode cX8_oldest 16 = .ok (.goto 4, 3) := dk_167 0 4 (dk_at dksX8_oldest_0 16 rfl rfl)
theorem dX8_oldest_19 : decode cX8_oldest 19 = .ok (.iconst 0, 1) := dk_3 (dk_at dksX8_oldest_0 19 rfl rfl)
theorem dX8_oldest_20 : decode cX8_oldest 20 = .ok (.iconst 1, 1) := dk_4 (dk_at dksX8_oldest_0 20 rfl rfl)
theorem dX8_oldest_21 : decode cX8_oldest 21 = .ok (.iconst 1, 1) := dk_4 (dk_at dksX8_oldest_0 21 rfl rfl)
theorem dX8_oldest_22 : decode cX8_oldest 22 = .ok (.invokevirtual 189, 3) := dk_182 0 189 (dk_at dksX8_oldest_1 0 rfl rfl)
theorem dX8_oldest_25 : decode cX8_oldest 25 = .ok (.ifCond .eq 5, 3) := dk_153 0 5 (dk_at dksX8_oldest_1 3 rfl rfl)
theorem dX8_oldest_28 : decode cX8_oldest 28 = .ok (.iconst 0, 1) := dk_3 (dk_at dksX8_oldest_1 6 rfl rfl)
theorem dX8_oldest_29 : decode cX8_oldest 29 = .ok (.ireturn, 1) := dk_172 (dk_at dksX8_oldest_1 7 rfl rfl)
theorem dX8_oldest_30 : decode cX8_oldest 30 = .ok (.iconst (-1), 1) := dk_2 (dk_at dksX8_oldest_1 8 rfl rfl)
theorem dX8_oldest_31 : decode cX8_oldest 31 = .ok (.istore_n 2, 1) := dk_61 (dk_at dksX8_oldest_1 9 rfl rfl)
theorem dX8_oldest_32 : decode cX8_oldest 32 = .ok (.iconst (-1), 1) := dk_2 (dk_at dksX8_oldest_1 10 rfl rfl)
theorem dX8_oldest_33 : decode cX8_oldest 33 = .ok (.istore_n 3, 1) := dk_62 (dk_at dksX8_oldest_1 11 rfl rfl)
theorem dX8_oldest_34 : decode cX8_oldest 34 = .ok (.iconst 0, 1) := dk_3 (dk_at dksX8_oldest_1 12 rfl rfl)
theorem dX8_oldest_35 : decode cX8_oldest 35 = .ok (.istore 4, 2) := dk_54 4 (dk_at dksX8_oldest_1 13 rfl rfl)
theorem dX8_oldest_37 : decode cX8_oldest 37 = .ok (.iload 4, 2) := dk_21 4 (dk_at dksX8_oldest_1 15 rfl rfl)
theorem dX8_oldest_39 : decode cX8_oldest 39 = .ok (.aload_n 0, 1) := dk_42 (dk_at dksX8_oldest_1 17 rfl rfl)
theorem dX8_oldest_40 : decode cX8_oldest 40 = .ok (.getfield 23, 3) := dk_180 0 23 (dk_at dksX8_oldest_1 18 rfl rfl)
theorem dX8_oldest_43 : decode cX8_oldest 43 = .ok (.iconst 2, 1) := dk_5 (dk_at dksX8_oldest_1 21 rfl rfl)
theorem dX8_oldest_44 : decode cX8_oldest 44 = .ok (.iaload, 1) := dk_46 (dk_at dksX8_oldest_1 22 rfl rfl)
theorem dX8_oldest_45 : decode cX8_oldest 45 = .ok (.if_icmp .ge 54, 3) := dk_162 0 54 (dk_at dksX8_oldest_2 0 rfl rfl)
theorem dX8_oldest_48 : decode cX8_oldest 48 = .ok (.aload_n 0, 1) := dk_42 (dk_at dksX8_oldest_2 3 rfl rfl)
theorem dX8_oldest_49 : decode cX8_oldest 49 = .ok (.getfield 73, 3) := dk_180 0 73 (dk_at dksX8_oldest_2 4 rfl rfl)
theorem dX8_oldest_52 : decode cX8_oldest 52 = .ok (.bipush 80, 2) := dk_16 80 (dk_at dksX8_oldest_2 7 rfl rfl)
theorem dX8_oldest_54 : decode cX8_oldest 54 = .ok (.iload 4, 2) := dk_21 4 (dk_at dksX8_oldest_2 9 rfl rfl)
theorem dX8_oldest_56 : decode cX8_oldest 56 = .ok (.iadd, 1) := dk_96 (dk_at dksX8_oldest_2 11 rfl rfl)
theorem dX8_oldest_57 : decode cX8_oldest 57 = .ok (.iaload, 1) := dk_46 (dk_at dksX8_oldest_2 12 rfl rfl)
theorem dX8_oldest_58 : decode cX8_oldest 58 = .ok (.iconst (-1), 1) := dk_2 (dk_at dksX8_oldest_2 13 rfl rfl)
theorem dX8_oldest_59 : decode cX8_oldest 59 = .ok (.if_icmp .eq 34, 3) := dk_159 0 34 (dk_at dksX8_oldest_2 14 rfl rfl)
theorem dX8_oldest_62 : decode cX8_oldest 62 = .ok (.aload_n 0, 1) := dk_42 (dk_at dksX8_oldest_2 17 rfl rfl)
theorem dX8_oldest_63 : decode cX8_oldest 63 = .ok (.getfield 73, 3) := dk_180 0 73 (dk_at dksX8_oldest_2 18 rfl rfl)
theorem dX8_oldest_66 : decode cX8_oldest 66 = .ok (.bipush 92, 2) := dk_16 92 (dk_at dksX8_oldest_2 21 rfl rfl)
theorem dX8_oldest_68 : decode cX8_oldest 68 = .ok (.iload 4, 2) := dk_21 4 (dk_at dksX8_oldest_3 0 rfl rfl)
theorem dX8_oldest_70 : decode cX8_oldest 70 = .ok (.iadd, 1) := dk_96 (dk_at dksX8_oldest_3 2 rfl rfl)
theorem dX8_oldest_71 : decode cX8_oldest 71 = .ok (.iaload, 1) := dk_46 (dk_at dksX8_oldest_3 3 rfl rfl)
theorem dX8_oldest_72 : decode cX8_oldest 72 = .ok (.iload_n 3, 1) := dk_29 (dk_at dksX8_oldest_3 4 rfl rfl)
theorem dX8_oldest_73 : decode cX8_oldest 73 = .ok (.if_icmp .gt 6, 3) := dk_163 0 6 (dk_at dksX8_oldest_3 5 rfl rfl)
theorem dX8_oldest_76 : decode cX8_oldest 76 = .ok (.goto 17, 3) := dk_167 0 17 (dk_at dksX8_oldest_3 8 rfl rfl)
theorem dX8_oldest_79 : decode cX8_oldest 79 = .ok (.iload 4, 2) := dk_21 4 (dk_at dksX8_oldest_3 11 rfl rfl)
theorem dX8_oldest_81 : decode cX8_oldest 81 = .ok (.istore_n 2, 1) := dk_61 (dk_at dksX8_oldest_3 13 rfl rfl)
theorem dX8_oldest_82 : decode cX8_oldest 82 = .ok (.aload_n 0, 1) := dk_42 (dk_at dksX8_oldest_3 14 rfl rfl)
theorem dX8_oldest_83 : decode cX8_oldest 83 = .ok (.getfield 73, 3) := dk_180 0 73 (dk_at dksX8_oldest_3 15 rfl rfl)
theorem dX8_oldest_86 : decode cX8_oldest 86 = .ok (.bipush 92, 2) := dk_16 92 (dk_at dksX8_oldest_3 18 rfl rfl)
theorem dX8_oldest_88 : decode cX8_oldest 88 = .ok (.iload 4, 2) := dk_21 4 (dk_at dksX8_oldest_3 20 rfl rfl)
theorem dX8_oldest_90 : decode cX8_oldest 90 = .ok (.iadd, 1) := dk_96 (dk_at dksX8_oldest_3 22 rfl rfl)
theorem dX8_oldest_91 : decode cX8_oldest 91 = .ok (.iaload, 1) := dk_46 (dk_at dksX8_oldest_3 23 rfl rfl)
theorem dX8_oldest_92 : decode cX8_oldest 92 = .ok (.istore_n 3, 1) := dk_62 (dk_at dksX8_oldest_4 0 rfl rfl)
theorem dX8_oldest_93 : decode cX8_oldest 93 = .ok (.iinc 4 1, 3) := dk_132 4 1 (dk_at dksX8_oldest_4 1 rfl rfl)
theorem dX8_oldest_96 : decode cX8_oldest 96 = .ok (.goto (-59), 3) := dk_167 255 197 (dk_at dksX8_oldest_4 4 rfl rfl)
theorem dX8_oldest_99 : decode cX8_oldest 99 = .ok (.iload_n 1, 1) := dk_27 (dk_at dksX8_oldest_4 7 rfl rfl)
theorem dX8_oldest_100 : decode cX8_oldest 100 = .ok (.ifCond .ne 7, 3) := dk_154 0 7 (dk_at dksX8_oldest_4 8 rfl rfl)
theorem dX8_oldest_103 : decode cX8_oldest 103 = .ok (.iload_n 2, 1) := dk_28 (dk_at dksX8_oldest_4 11 rfl rfl)
theorem dX8_oldest_104 : decode cX8_oldest 104 = .ok (.goto 4, 3) := dk_167 0 4 (dk_at dksX8_oldest_4 12 rfl rfl)
theorem dX8_oldest_107 : decode cX8_oldest 107 = .ok (.iload_n 3, 1) := dk_29 (dk_at dksX8_oldest_4 15 rfl rfl)
theorem dX8_oldest_108 : decode cX8_oldest 108 = .ok (.ireturn, 1) := dk_172 (dk_at dksX8_oldest_4 16 rfl rfl)
abbrev cX8_empty : ByteArray := prog_30_method_102_code
def yX8_empty : MethodName := ⟨RX8, "empty", "()I"⟩
def dkwX8_empty_2 : List UInt8 := [167, 255, 220, 27, 172]
abbrev dktX8_empty_2 : List UInt8 := dkwX8_empty_2 ++ []
def dkwX8_empty_1 : List UInt8 := [180, 0, 73, 28, 182, 1, 37, 2, 160, 0, 9, 4, 28, 120, 167, 0, 4, 3, 128, 60, 132, 2, 1]
abbrev dktX8_empty_1 : List UInt8 := dkwX8_empty_1 ++ dktX8_empty_2
def dkwX8_empty_0 : List UInt8 := [42, 3, 181, 0, 106, 3, 60, 3, 61, 28, 42, 180, 0, 23, 3, 46, 162, 0, 32, 27, 42, 42]
abbrev dktX8_empty_0 : List UInt8 := dkwX8_empty_0 ++ dktX8_empty_1
theorem dksX8_empty_0 : cX8_empty.data.toList.drop 0 = dktX8_empty_0 := by decide +kernel
theorem dksX8_empty_1 : cX8_empty.data.toList.drop 22 = dktX8_empty_1 := dk_seg dksX8_empty_0 22 rfl rfl
theorem dksX8_empty_2 : cX8_empty.data.toList.drop 45 = dktX8_empty_2 := dk_seg dksX8_empty_1 23 rfl rfl
theorem dX8_empty_0 : decode cX8_empty 0 = .ok (.aload_n 0, 1) := dk_42 (dk_at dksX8_empty_0 0 rfl rfl)
theorem dX8_empty_1 : decode cX8_empty 1 = .ok (.iconst 0, 1) := dk_3 (dk_at dksX8_empty_0 1 rfl rfl)
theorem dX8_empty_2 : decode cX8_empty 2 = .ok (.putfield 106, 3) := dk_181 0 106 (dk_at dksX8_empty_0 2 rfl rfl)
theorem dX8_empty_5 : decode cX8_empty 5 = .ok (.iconst 0, 1) := dk_3 (dk_at dksX8_empty_0 5 rfl rfl)
theorem dX8_empty_6 : decode cX8_empty 6 = .ok (.istore_n 1, 1) := dk_60 (dk_at dksX8_empty_0 6 rfl rfl)
theorem dX8_empty_7 : decode cX8_empty 7 = .ok (.iconst 0, 1) := dk_3 (dk_at dksX8_empty_0 7 rfl rfl)
theorem dX8_empty_8 : decode cX8_empty 8 = .ok (.istore_n 2, 1) := dk_61 (dk_at dksX8_empty_0 8 rfl rfl)
theorem dX8_empty_9 : decode cX8_empty 9 = .ok (.iload_n 2, 1) := dk_28 (dk_at dksX8_empty_0 9 rfl rfl)
theorem dX8_empty_10 : decode cX8_empty 10 = .ok (.aload_n 0, 1) := dk_42 (dk_at dksX8_empty_0 10 rfl rfl)
theorem dX8_empty_11 : decode cX8_empty 11 = .ok (.getfield 23, 3) := dk_180 0 23 (dk_at dksX8_empty_0 11 rfl rfl)
theorem dX8_empty_14 : decode cX8_empty 14 = .ok (.iconst 0, 1) := dk_3 (dk_at dksX8_empty_0 14 rfl rfl)
theorem dX8_empty_15 : decode cX8_empty 15 = .ok (.iaload, 1) := dk_46 (dk_at dksX8_empty_0 15 rfl rfl)
theorem dX8_empty_16 : decode cX8_empty 16 = .ok (.if_icmp .ge 32, 3) := dk_162 0 32 (dk_at dksX8_empty_0 16 rfl rfl)
theorem dX8_empty_19 : decode cX8_empty 19 = .ok (.iload_n 1, 1) := dk_27 (dk_at dksX8_empty_0 19 rfl rfl)
theorem dX8_empty_20 : decode cX8_empty 20 = .ok (.aload_n 0, 1) := dk_42 (dk_at dksX8_empty_0 20 rfl rfl)
theorem dX8_empty_21 : decode cX8_empty 21 = .ok (.aload_n 0, 1) := dk_42 (dk_at dksX8_empty_0 21 rfl rfl)
theorem dX8_empty_22 : decode cX8_empty 22 = .ok (.getfield 73, 3) := dk_180 0 73 (dk_at dksX8_empty_1 0 rfl rfl)
theorem dX8_empty_25 : decode cX8_empty 25 = .ok (.iload_n 2, 1) := dk_28 (dk_at dksX8_empty_1 3 rfl rfl)
theorem dX8_empty_26 : decode cX8_empty 26 = .ok (.invokevirtual 293, 3) := dk_182 1 37 (dk_at dksX8_empty_1 4 rfl rfl)
theorem dX8_empty_29 : decode cX8_empty 29 = .ok (.iconst (-1), 1) := dk_2 (dk_at dksX8_empty_1 7 rfl rfl)
theorem dX8_empty_30 : decode cX8_empty 30 = .ok (.if_icmp .ne 9, 3) := dk_160 0 9 (dk_at dksX8_empty_1 8 rfl rfl)
theorem dX8_empty_33 : decode cX8_empty 33 = .ok (.iconst 1, 1) := dk_4 (dk_at dksX8_empty_1 11 rfl rfl)
theorem dX8_empty_34 : decode cX8_empty 34 = .ok (.iload_n 2, 1) := dk_28 (dk_at dksX8_empty_1 12 rfl rfl)
theorem dX8_empty_35 : decode cX8_empty 35 = .ok (.ishl, 1) := dk_120 (dk_at dksX8_empty_1 13 rfl rfl)
theorem dX8_empty_36 : decode cX8_empty 36 = .ok (.goto 4, 3) := dk_167 0 4 (dk_at dksX8_empty_1 14 rfl rfl)
theorem dX8_empty_39 : decode cX8_empty 39 = .ok (.iconst 0, 1) := dk_3 (dk_at dksX8_empty_1 17 rfl rfl)
theorem dX8_empty_40 : decode cX8_empty 40 = .ok (.ior, 1) := dk_128 (dk_at dksX8_empty_1 18 rfl rfl)
theorem dX8_empty_41 : decode cX8_empty 41 = .ok (.istore_n 1, 1) := dk_60 (dk_at dksX8_empty_1 19 rfl rfl)
theorem dX8_empty_42 : decode cX8_empty 42 = .ok (.iinc 2 1, 3) := dk_132 2 1 (dk_at dksX8_empty_1 20 rfl rfl)
theorem dX8_empty_45 : decode cX8_empty 45 = .ok (.goto (-36), 3) := dk_167 255 220 (dk_at dksX8_empty_2 0 rfl rfl)
theorem dX8_empty_48 : decode cX8_empty 48 = .ok (.iload_n 1, 1) := dk_27 (dk_at dksX8_empty_2 3 rfl rfl)
theorem dX8_empty_49 : decode cX8_empty 49 = .ok (.ireturn, 1) := dk_172 (dk_at dksX8_empty_2 4 rfl rfl)
abbrev cX8_margin : ByteArray := prog_30_method_103_code
def yX8_margin : MethodName := ⟨RX8, "margin", "(I)I"⟩
def dkwX8_margin_4 : List UInt8 := [100, 172]
abbrev dktX8_margin_4 : List UInt8 := dkwX8_margin_4 ++ []
def dkwX8_margin_3 : List UInt8 := [182, 1, 67, 184, 0, 252, 62, 132, 4, 1, 167, 255, 220, 42, 42, 180, 0, 73, 27, 28, 182, 1, 67, 29]
abbrev dktX8_margin_3 : List UInt8 := dkwX8_margin_3 ++ dktX8_margin_4
def dkwX8_margin_2 : List UInt8 := [162, 0, 35, 21, 4, 28, 160, 0, 7, 29, 167, 0, 18, 29, 42, 42, 180, 0, 73, 27, 21, 4]
abbrev dktX8_margin_2 : List UInt8 := dkwX8_margin_2 ++ dktX8_margin_3
def dkwX8_margin_1 : List UInt8 := [153, 0, 5, 3, 172, 42, 42, 180, 0, 73, 27, 182, 1, 70, 61, 3, 62, 3, 54, 4, 21, 4, 16, 10]
abbrev dktX8_margin_1 : List UInt8 := dkwX8_margin_1 ++ dktX8_margin_2
def dkwX8_margin_0 : List UInt8 := [42, 3, 181, 0, 106, 42, 42, 27, 182, 1, 83, 154, 0, 7, 4, 167, 0, 4, 3, 4, 3, 182, 0, 189]
abbrev dktX8_margin_0 : List UInt8 := dkwX8_margin_0 ++ dktX8_margin_1
theorem dksX8_margin_0 : cX8_margin.data.toList.drop 0 = dktX8_margin_0 := by decide +kernel
theorem dksX8_margin_1 : cX8_margin.data.toList.drop 24 = dktX8_margin_1 := dk_seg dksX8_margin_0 24 rfl rfl
theorem dksX8_margin_2 : cX8_margin.data.toList.drop 48 = dktX8_margin_2 := dk_seg dksX8_margin_1 24 rfl rfl
theorem dksX8_margin_3 : cX8_margin.data.toList.drop 70 = dktX8_margin_3 := dk_seg dksX8_margin_2 22 rfl rfl
theorem dksX8_margin_4 : cX8_margin.data.toList.drop 94 = dktX8_margin_4 := dk_seg dksX8_margin_3 24 rfl rfl
theorem dX8_margin_0 : decode cX8_margin 0 = .ok (.aload_n 0, 1) := dk_42 (dk_at dksX8_margin_0 0 rfl rfl)
theorem dX8_margin_1 : decode cX8_margin 1 = .ok (.iconst 0, 1) := dk_3 (dk_at dksX8_margin_0 1 rfl rfl)
theorem dX8_margin_2 : decode cX8_margin 2 = .ok (.putfield 106, 3) := dk_181 0 106 (dk_at dksX8_margin_0 2 rfl rfl)
theorem dX8_margin_5 : decode cX8_margin 5 = .ok (.aload_n 0, 1) := dk_42 (dk_at dksX8_margin_0 5 rfl rfl)
theorem dX8_margin_6 : decode cX8_margin 6 = .ok (.aload_n 0, 1) := dk_42 (dk_at dksX8_margin_0 6 rfl rfl)
theorem dX8_margin_7 : decode cX8_margin 7 = .ok (.iload_n 1, 1) := dk_27 (dk_at dksX8_margin_0 7 rfl rfl)
theorem dX8_margin_8 : decode cX8_margin 8 = .ok (.invokevirtual 339, 3) := dk_182 1 83 (dk_at dksX8_margin_0 8 rfl rfl)
theorem dX8_margin_11 : decode cX8_margin 11 = .ok (.ifCond .ne 7, 3) := dk_154 0 7 (dk_at dksX8_margin_0 11 rfl rfl)
theorem dX8_margin_14 : decode cX8_margin 14 = .ok (.iconst 1, 1) := dk_4 (dk_at dksX8_margin_0 14 rfl rfl)
theorem dX8_margin_15 : decode cX8_margin 15 = .ok (.goto 4, 3) := dk_167 0 4 (dk_at dksX8_margin_0 15 rfl rfl)
theorem dX8_margin_18 : decode cX8_margin 18 = .ok (.iconst 0, 1) := dk_3 (dk_at dksX8_margin_0 18 rfl rfl)
theorem dX8_margin_19 : decode cX8_margin 19 = .ok (.iconst 1, 1) := dk_4 (dk_at dksX8_margin_0 19 rfl rfl)
theorem dX8_margin_20 : decode cX8_margin 20 = .ok (.iconst 0, 1) := dk_3 (dk_at dksX8_margin_0 20 rfl rfl)
theorem dX8_margin_21 : decode cX8_margin 21 = .ok (.invokevirtual 189, 3) := dk_182 0 189 (dk_at dksX8_margin_0 21 rfl rfl)
theorem dX8_margin_24 : decode cX8_margin 24 = .ok (.ifCond .eq 5, 3) := dk_153 0 5 (dk_at dksX8_margin_1 0 rfl rfl)
theorem dX8_margin_27 : decode cX8_margin 27 = .ok (.iconst 0, 1) := dk_3 (dk_at dksX8_margin_1 3 rfl rfl)
theorem dX8_margin_28 : decode cX8_margin 28 = .ok (.ireturn, 1) := dk_172 (dk_at dksX8_margin_1 4 rfl rfl)
theorem dX8_margin_29 : decode cX8_margin 29 = .ok (.aload_n 0, 1) := dk_42 (dk_at dksX8_margin_1 5 rfl rfl)
theorem dX8_margin_30 : decode cX8_margin 30 = .ok (.aload_n 0, 1) := dk_42 (dk_at dksX8_margin_1 6 rfl rfl)
theorem dX8_margin_31 : decode cX8_margin 31 = .ok (.getfield 73, 3) := dk_180 0 73 (dk_at dksX8_margin_1 7 rfl rfl)
theorem dX8_margin_34 : decode cX8_margin 34 = .ok (.iload_n 1, 1) := dk_27 (dk_at dksX8_margin_1 10 rfl rfl)
theorem dX8_margin_35 : decode cX8_margin 35 = .ok (.invokevirtual 326, 3) := dk_182 1 70 (dk_at dksX8_margin_1 11 rfl rfl)
theorem dX8_margin_38 : decode cX8_margin 38 = .ok (.istore_n 2, 1) := dk_61 (dk_at dksX8_margin_1 14 rfl rfl)
theorem dX8_margin_39 : decode cX8_margin 39 = .ok (.iconst 0, 1) := dk_3 (dk_at dksX8_margin_1 15 rfl rfl)
theorem dX8_margin_40 : decode cX8_margin 40 = .ok (.istore_n 3, 1) := dk_62 (dk_at dksX8_margin_1 16 rfl rfl)
theorem dX8_margin_41 : decode cX8_margin 41 = .ok (.iconst 0, 1) := dk_3 (dk_at dksX8_margin_1 17 rfl rfl)
theorem dX8_margin_42 : decode cX8_margin 42 = .ok (.istore 4, 2) := dk_54 4 (dk_at dksX8_margin_1 18 rfl rfl)
theorem dX8_margin_44 : decode cX8_margin 44 = .ok (.iload 4, 2) := dk_21 4 (dk_at dksX8_margin_1 20 rfl rfl)
theorem dX8_margin_46 : decode cX8_margin 46 = .ok (.bipush 10, 2) := dk_16 10 (dk_at dksX8_margin_1 22 rfl rfl)
theorem dX8_margin_48 : decode cX8_margin 48 = .ok (.if_icmp .ge 35, 3) := dk_162 0 35 (dk_at dksX8_margin_2 0 rfl rfl)
theorem dX8_margin_51 : decode cX8_margin 51 = .ok (.iload 4, 2) := dk_21 4 (dk_at dksX8_margin_2 3 rfl rfl)
theorem dX8_margin_53 : decode cX8_margin 53 = .ok (.iload_n 2, 1) := dk_28 (dk_at dksX8_margin_2 5 rfl rfl)
theorem dX8_margin_54 : decode cX8_margin 54 = .ok (.if_icmp .ne 7, 3) := dk_160 0 7 (dk_at dksX8_margin_2 6 rfl rfl)
theorem dX8_margin_57 : decode cX8_margin 57 = .ok (.iload_n 3, 1) := dk_29 (dk_at dksX8_margin_2 9 rfl rfl)
theorem dX8_margin_58 : decode cX8_margin 58 = .ok (.goto 18, 3) := dk_167 0 18 (dk_at dksX8_margin_2 10 rfl rfl)
theorem dX8_margin_61 : decode cX8_margin 61 = .ok (.iload_n 3, 1) := dk_29 (dk_at dksX8_margin_2 13 rfl rfl)
theorem dX8_margin_62 : decode cX8_margin 62 = .ok (.aload_n 0, 1) := dk_42 (dk_at dksX8_margin_2 14 rfl rfl)
theorem dX8_margin_63 : decode cX8_margin 63 = .ok (.aload_n 0, 1) := dk_42 (dk_at dksX8_margin_2 15 rfl rfl)
theorem dX8_margin_64 : decode cX8_margin 64 = .ok (.getfield 73, 3) := dk_180 0 73 (dk_at dksX8_margin_2 16 rfl rfl)
theorem dX8_margin_67 : decode cX8_margin 67 = .ok (.iload_n 1, 1) := dk_27 (dk_at dksX8_margin_2 19 rfl rfl)
theorem dX8_margin_68 : decode cX8_margin 68 = .ok (.iload 4, 2) := dk_21 4 (dk_at dksX8_margin_2 20 rfl rfl)
theorem dX8_margin_70 : decode cX8_margin 70 = .ok (.invokevirtual 323, 3) := dk_182 1 67 (dk_at dksX8_margin_3 0 rfl rfl)
theorem dX8_margin_73 : decode cX8_margin 73 = .ok (.invokestatic 252, 3) := dk_184 0 252 (dk_at dksX8_margin_3 3 rfl rfl)
theorem dX8_margin_76 : decode cX8_margin 76 = .ok (.istore_n 3, 1) := dk_62 (dk_at dksX8_margin_3 6 rfl rfl)
theorem dX8_margin_77 : decode cX8_margin 77 = .ok (.iinc 4 1, 3) := dk_132 4 1 (dk_at dksX8_margin_3 7 rfl rfl)
theorem dX8_margin_80 : decode cX8_margin 80 = .ok (.goto (-36), 3) := dk_167 255 220 (dk_at dksX8_margin_3 10 rfl rfl)
theorem dX8_margin_83 : decode cX8_margin 83 = .ok (.aload_n 0, 1) := dk_42 (dk_at dksX8_margin_3 13 rfl rfl)
theorem dX8_margin_84 : decode cX8_margin 84 = .ok (.aload_n 0, 1) := dk_42 (dk_at dksX8_margin_3 14 rfl rfl)
theorem dX8_margin_85 : decode cX8_margin 85 = .ok (.getfield 73, 3) := dk_180 0 73 (dk_at dksX8_margin_3 15 rfl rfl)
theorem dX8_margin_88 : decode cX8_margin 88 = .ok (.iload_n 1, 1) := dk_27 (dk_at dksX8_margin_3 18 rfl rfl)
theorem dX8_margin_89 : decode cX8_margin 89 = .ok (.iload_n 2, 1) := dk_28 (dk_at dksX8_margin_3 19 rfl rfl)
theorem dX8_margin_90 : decode cX8_margin 90 = .ok (.invokevirtual 323, 3) := dk_182 1 67 (dk_at dksX8_margin_3 20 rfl rfl)
theorem dX8_margin_93 : decode cX8_margin 93 = .ok (.iload_n 3, 1) := dk_29 (dk_at dksX8_margin_3 23 rfl rfl)
theorem dX8_margin_94 : decode cX8_margin 94 = .ok (.isub, 1) := dk_100 (dk_at dksX8_margin_4 0 rfl rfl)
theorem dX8_margin_95 : decode cX8_margin 95 = .ok (.ireturn, 1) := dk_172 (dk_at dksX8_margin_4 1 rfl rfl)
abbrev cX8_changed : ByteArray := prog_30_method_104_code
def yX8_changed : MethodName := ⟨RX8, "changed", "()I"⟩
def dkwX8_changed_0 : List UInt8 := [42, 3, 181, 0, 106, 42, 42, 180, 0, 73, 182, 1, 127, 172]
abbrev dktX8_changed_0 : List UInt8 := dkwX8_changed_0 ++ []
theorem dksX8_changed_0 : cX8_changed.data.toList.drop 0 = dktX8_changed_0 := by decide +kernel
theorem dX8_changed_0 : decode cX8_changed 0 = .ok (.aload_n 0, 1) := dk_42 (dk_at dksX8_changed_0 0 rfl rfl)
theorem dX8_changed_1 : decode cX8_changed 1 = .ok (.iconst 0, 1) := dk_3 (dk_at dksX8_changed_0 1 rfl rfl)
theorem dX8_changed_2 : decode cX8_changed 2 = .ok (.putfield 106, 3) := dk_181 0 106 (dk_at dksX8_changed_0 2 rfl rfl)
theorem dX8_changed_5 : decode cX8_changed 5 = .ok (.aload_n 0, 1) := dk_42 (dk_at dksX8_changed_0 5 rfl rfl)
theorem dX8_changed_6 : decode cX8_changed 6 = .ok (.aload_n 0, 1) := dk_42 (dk_at dksX8_changed_0 6 rfl rfl)
theorem dX8_changed_7 : decode cX8_changed 7 = .ok (.getfield 73, 3) := dk_180 0 73 (dk_at dksX8_changed_0 7 rfl rfl)
theorem dX8_changed_10 : decode cX8_changed 10 = .ok (.invokevirtual 383, 3) := dk_182 1 127 (dk_at dksX8_changed_0 10 rfl rfl)
theorem dX8_changed_13 : decode cX8_changed 13 = .ok (.ireturn, 1) := dk_172 (dk_at dksX8_changed_0 13 rfl rfl)
abbrev cX8_changedIn : ByteArray := prog_30_method_64_code
def yX8_changedIn : MethodName := ⟨RX8, "changedIn", "([I)I"⟩
def dkwX8_changedIn_2 : List UInt8 := [172]
abbrev dktX8_changedIn_2 : List UInt8 := dkwX8_changedIn_2 ++ []
def dkwX8_changedIn_1 : List UInt8 := [180, 0, 29, 29, 46, 159, 0, 9, 4, 29, 120, 167, 0, 4, 3, 128, 61, 132, 3, 1, 167, 255, 218, 28]
abbrev dktX8_changedIn_1 : List UInt8 := dkwX8_changedIn_1 ++ dktX8_changedIn_2
def dkwX8_changedIn_0 : List UInt8 := [3, 61, 3, 62, 29, 42, 180, 0, 23, 3, 46, 162, 0, 34, 28, 42, 43, 29, 182, 1, 70, 42]
abbrev dktX8_changedIn_0 : List UInt8 := dkwX8_changedIn_0 ++ dktX8_changedIn_1
theorem dksX8_changedIn_0 : cX8_changedIn.data.toList.drop 0 = dktX8_changedIn_0 := by decide +kernel
theorem dksX8_changedIn_1 : cX8_changedIn.data.toList.drop 22 = dktX8_changedIn_1 := dk_seg dksX8_changedIn_0 22 rfl rfl
theorem dksX8_changedIn_2 : cX8_changedIn.data.toList.drop 46 = dktX8_changedIn_2 := dk_seg dksX8_changedIn_1 24 rfl rfl
theorem dX8_changedIn_0 : decode cX8_changedIn 0 = .ok (.iconst 0, 1) := dk_3 (dk_at dksX8_changedIn_0 0 rfl rfl)
theorem dX8_changedIn_1 : decode cX8_changedIn 1 = .ok (.istore_n 2, 1) := dk_61 (dk_at dksX8_changedIn_0 1 rfl rfl)
theorem dX8_changedIn_2 : decode cX8_changedIn 2 = .ok (.iconst 0, 1) := dk_3 (dk_at dksX8_changedIn_0 2 rfl rfl)
theorem dX8_changedIn_3 : decode cX8_changedIn 3 = .ok (.istore_n 3, 1) := dk_62 (dk_at dksX8_changedIn_0 3 rfl rfl)
theorem dX8_changedIn_4 : decode cX8_changedIn 4 = .ok (.iload_n 3, 1) := dk_29 (dk_at dksX8_changedIn_0 4 rfl rfl)
theorem dX8_changedIn_5 : decode cX8_changedIn 5 = .ok (.aload_n 0, 1) := dk_42 (dk_at dksX8_changedIn_0 5 rfl rfl)
theorem dX8_changedIn_6 : decode cX8_changedIn 6 = .ok (.getfield 23, 3) := dk_180 0 23 (dk_at dksX8_changedIn_0 6 rfl rfl)
theorem dX8_changedIn_9 : decode cX8_changedIn 9 = .ok (.iconst 0, 1) := dk_3 (dk_at dksX8_changedIn_0 9 rfl rfl)
theorem dX8_changedIn_10 : decode cX8_changedIn 10 = .ok (.iaload, 1) := dk_46 (dk_at dksX8_changedIn_0 10 rfl rfl)
theorem dX8_changedIn_11 : decode cX8_changedIn 11 = .ok (.if_icmp .ge 34, 3) := dk_162 0 34 (dk_at dksX8_changedIn_0 11 rfl rfl)
theorem dX8_changedIn_14 : decode cX8_changedIn 14 = .ok (.iload_n 2, 1) := dk_28 (dk_at dksX8_changedIn_0 14 rfl rfl)
theorem dX8_changedIn_15 : decode cX8_changedIn 15 = .ok (.aload_n 0, 1) := dk_42 (dk_at dksX8_changedIn_0 15 rfl rfl)
theorem dX8_changedIn_16 : decode cX8_changedIn 16 = .ok (.aload_n 1, 1) := dk_43 (dk_at dksX8_changedIn_0 16 rfl rfl)
theorem dX8_changedIn_17 : decode cX8_changedIn 17 = .ok (.iload_n 3, 1) := dk_29 (dk_at dksX8_changedIn_0 17 rfl rfl)
theorem dX8_changedIn_18 : decode cX8_changedIn 18 = .ok (.invokevirtual 326, 3) := dk_182 1 70 (dk_at dksX8_changedIn_0 18 rfl rfl)
theorem dX8_changedIn_21 : decode cX8_changedIn 21 = .ok (.aload_n 0, 1) := dk_42 (dk_at dksX8_changedIn_0 21 rfl rfl)
theorem dX8_changedIn_22 : decode cX8_changedIn 22 = .ok (.getfield 29, 3) := dk_180 0 29 (dk_at dksX8_changedIn_1 0 rfl rfl)
theorem dX8_changedIn_25 : decode cX8_changedIn 25 = .ok (.iload_n 3, 1) := dk_29 (dk_at dksX8_changedIn_1 3 rfl rfl)
theorem dX8_changedIn_26 : decode cX8_changedIn 26 = .ok (.iaload, 1) := dk_46 (dk_at dksX8_changedIn_1 4 rfl rfl)
theorem dX8_changedIn_27 : decode cX8_changedIn 27 = .ok (.if_icmp .eq 9, 3) := dk_159 0 9 (dk_at dksX8_changedIn_1 5 rfl rfl)
theorem dX8_changedIn_30 : decode cX8_changedIn 30 = .ok (.iconst 1, 1) := dk_4 (dk_at dksX8_changedIn_1 8 rfl rfl)
theorem dX8_changedIn_31 : decode cX8_changedIn 31 = .ok (.iload_n 3, 1) := dk_29 (dk_at dksX8_changedIn_1 9 rfl rfl)
theorem dX8_changedIn_32 : decode cX8_changedIn 32 = .ok (.ishl, 1) := dk_120 (dk_at dksX8_changedIn_1 10 rfl rfl)
theorem dX8_changedIn_33 : decode cX8_changedIn 33 = .ok (.goto 4, 3) := dk_167 0 4 (dk_at dksX8_changedIn_1 11 rfl rfl)
theorem dX8_changedIn_36 : decode cX8_changedIn 36 = .ok (.iconst 0, 1) := dk_3 (dk_at dksX8_changedIn_1 14 rfl rfl)
theorem dX8_changedIn_37 : decode cX8_changedIn 37 = .ok (.ior, 1) := dk_128 (dk_at dksX8_changedIn_1 15 rfl rfl)
theorem dX8_changedIn_38 : decode cX8_changedIn 38 = .ok (.istore_n 2, 1) := dk_61 (dk_at dksX8_changedIn_1 16 rfl rfl)
theorem dX8_changedIn_39 : decode cX8_changedIn 39 = .ok (.iinc 3 1, 3) := dk_132 3 1 (dk_at dksX8_changedIn_1 17 rfl rfl)
theorem dX8_changedIn_42 : decode cX8_changedIn 42 = .ok (.goto (-38), 3) := dk_167 255 218 (dk_at dksX8_changedIn_1 20 rfl rfl)
theorem dX8_changedIn_45 : decode cX8_changedIn 45 = .ok (.iload_n 2, 1) := dk_28 (dk_at dksX8_changedIn_1 23 rfl rfl)
theorem dX8_changedIn_46 : decode cX8_changedIn 46 = .ok (.ireturn, 1) := dk_172 (dk_at dksX8_changedIn_2 0 rfl rfl)
abbrev cX8_year : ByteArray := prog_30_method_108_code
def yX8_year : MethodName := ⟨RX8, "year", "(IIII)I"⟩
def dkwX8_year_4 : List UInt8 := [42, 180, 0, 76, 182, 1, 76, 172]
abbrev dktX8_year_4 : List UInt8 := dkwX8_year_4 ++ []
def dkwX8_year_3 : List UInt8 := [42, 42, 180, 0, 76, 182, 1, 127, 172, 42, 180, 1, 134, 172, 42, 42, 180, 0, 76, 182, 1, 80, 172, 42]
abbrev dktX8_year_3 : List UInt8 := dkwX8_year_3 ++ dktX8_year_4
def dkwX8_year_2 : List UInt8 := [170, 0, 0, 0, 0, 0, 0, 51, 0, 0, 0, 0, 0, 0, 0, 2, 0, 0, 0, 28, 0, 0, 0, 37, 0, 0, 0, 42]
abbrev dktX8_year_2 : List UInt8 := dkwX8_year_2 ++ dktX8_year_3
def dkwX8_year_1 : List UInt8 := [4, 167, 0, 4, 3, 4, 4, 182, 0, 189, 153, 0, 5, 3, 172, 42, 27, 28, 29, 182, 1, 143, 21, 4]
abbrev dktX8_year_1 : List UInt8 := dkwX8_year_1 ++ dktX8_year_2
def dkwX8_year_0 : List UInt8 := [42, 3, 181, 0, 106, 42, 28, 29, 184, 1, 140, 153, 0, 13, 21, 4, 3, 6, 184, 0, 140, 154, 0, 7]
abbrev dktX8_year_0 : List UInt8 := dkwX8_year_0 ++ dktX8_year_1
theorem dksX8_year_0 : cX8_year.data.toList.drop 0 = dktX8_year_0 := by decide +kernel
theorem dksX8_year_1 : cX8_year.data.toList.drop 24 = dktX8_year_1 := dk_seg dksX8_year_0 24 rfl rfl
theorem dksX8_year_2 : cX8_year.data.toList.drop 48 = dktX8_year_2 := dk_seg dksX8_year_1 24 rfl rfl
theorem dksX8_year_3 : cX8_year.data.toList.drop 76 = dktX8_year_3 := dk_seg dksX8_year_2 28 rfl rfl
theorem dksX8_year_4 : cX8_year.data.toList.drop 100 = dktX8_year_4 := dk_seg dksX8_year_3 24 rfl rfl
theorem dX8_year_0 : decode cX8_year 0 = .ok (.aload_n 0, 1) := dk_42 (dk_at dksX8_year_0 0 rfl rfl)
theorem dX8_year_1 : decode cX8_year 1 = .ok (.iconst 0, 1) := dk_3 (dk_at dksX8_year_0 1 rfl rfl)
theorem dX8_year_2 : decode cX8_year 2 = .ok (.putfield 106, 3) := dk_181 0 106 (dk_at dksX8_year_0 2 rfl rfl)
theorem dX8_year_5 : decode cX8_year 5 = .ok (.aload_n 0, 1) := dk_42 (dk_at dksX8_year_0 5 rfl rfl)
theorem dX8_year_6 : decode cX8_year 6 = .ok (.iload_n 2, 1) := dk_28 (dk_at dksX8_year_0 6 rfl rfl)
theorem dX8_year_7 : decode cX8_year 7 = .ok (.iload_n 3, 1) := dk_29 (dk_at dksX8_year_0 7 rfl rfl)
theorem dX8_year_8 : decode cX8_year 8 = .ok (.invokestatic 396, 3) := dk_184 1 140 (dk_at dksX8_year_0 8 rfl rfl)
theorem dX8_year_11 : decode cX8_year 11 = .ok (.ifCond .eq 13, 3) := dk_153 0 13 (dk_at dksX8_year_0 11 rfl rfl)
theorem dX8_year_14 : decode cX8_year 14 = .ok (.iload 4, 2) := dk_21 4 (dk_at dksX8_year_0 14 rfl rfl)
theorem dX8_year_16 : decode cX8_year 16 = .ok (.iconst 0, 1) := dk_3 (dk_at dksX8_year_0 16 rfl rfl)
theorem dX8_year_17 : decode cX8_year 17 = .ok (.iconst 3, 1) := dk_6 (dk_at dksX8_year_0 17 rfl rfl)
theorem dX8_year_18 : decode cX8_year 18 = .ok (.invokestatic 140, 3) := dk_184 0 140 (dk_at dksX8_year_0 18 rfl rfl)
theorem dX8_year_21 : decode cX8_year 21 = .ok (.ifCond .ne 7, 3) := dk_154 0 7 (dk_at dksX8_year_0 21 rfl rfl)
theorem dX8_year_24 : decode cX8_year 24 = .ok (.iconst 1, 1) := dk_4 (dk_at dksX8_year_1 0 rfl rfl)
theorem dX8_year_25 : decode cX8_year 25 = .ok (.goto 4, 3) := dk_167 0 4 (dk_at dksX8_year_1 1 rfl rfl)
theorem dX8_year_28 : decode cX8_year 28 = .ok (.iconst 0, 1) := dk_3 (dk_at dksX8_year_1 4 rfl rfl)
theorem dX8_year_29 : decode cX8_year 29 = .ok (.iconst 1, 1) := dk_4 (dk_at dksX8_year_1 5 rfl rfl)
theorem dX8_year_30 : decode cX8_year 30 = .ok (.iconst 1, 1) := dk_4 (dk_at dksX8_year_1 6 rfl rfl)
theorem dX8_year_31 : decode cX8_year 31 = .ok (.invokevirtual 189, 3) := dk_182 0 189 (dk_at dksX8_year_1 7 rfl rfl)
theorem dX8_year_34 : decode cX8_year 34 = .ok (.ifCond .eq 5, 3) := dk_153 0 5 (dk_at dksX8_year_1 10 rfl rfl)
theorem dX8_year_37 : decode cX8_year 37 = .ok (.iconst 0, 1) := dk_3 (dk_at dksX8_year_1 13 rfl rfl)
theorem dX8_year_38 : decode cX8_year 38 = .ok (.ireturn, 1) := dk_172 (dk_at dksX8_year_1 14 rfl rfl)
theorem dX8_year_39 : decode cX8_year 39 = .ok (.aload_n 0, 1) := dk_42 (dk_at dksX8_year_1 15 rfl rfl)
theorem dX8_year_40 : decode cX8_year 40 = .ok (.iload_n 1, 1) := dk_27 (dk_at dksX8_year_1 16 rfl rfl)
theorem dX8_year_41 : decode cX8_year 41 = .ok (.iload_n 2, 1) := dk_28 (dk_at dksX8_year_1 17 rfl rfl)
theorem dX8_year_42 : decode cX8_year 42 = .ok (.iload_n 3, 1) := dk_29 (dk_at dksX8_year_1 18 rfl rfl)
theorem dX8_year_43 : decode cX8_year 43 = .ok (.invokevirtual 399, 3) := dk_182 1 143 (dk_at dksX8_year_1 19 rfl rfl)
theorem dX8_year_46 : decode cX8_year 46 = .ok (.iload 4, 2) := dk_21 4 (dk_at dksX8_year_1 22 rfl rfl)
theorem dX8_year_48 : decode cX8_year 48 = .ok (.tableswitch 51 0 2 #[28, 37, 42], 28) := by decide +kernel
theorem dX8_year_76 : decode cX8_year 76 = .ok (.aload_n 0, 1) := dk_42 (dk_at dksX8_year_3 0 rfl rfl)
theorem dX8_year_77 : decode cX8_year 77 = .ok (.aload_n 0, 1) := dk_42 (dk_at dksX8_year_3 1 rfl rfl)
theorem dX8_year_78 : decode cX8_year 78 = .ok (.getfield 76, 3) := dk_180 0 76 (dk_at dksX8_year_3 2 rfl rfl)
theorem dX8_year_81 : decode cX8_year 81 = .ok (.invokevirtual 383, 3) := dk_182 1 127 (dk_at dksX8_year_3 5 rfl rfl)
theorem dX8_year_84 : decode cX8_year 84 = .ok (.ireturn, 1) := dk_172 (dk_at dksX8_year_3 8 rfl rfl)
theorem dX8_year_85 : decode cX8_year 85 = .ok (.aload_n 0, 1) := dk_42 (dk_at dksX8_year_3 9 rfl rfl)
theorem dX8_year_86 : decode cX8_year 86 = .ok (.getfield 390, 3) := dk_180 1 134 (dk_at dksX8_year_3 10 rfl rfl)
theorem dX8_year_89 : decode cX8_year 89 = .ok (.ireturn, 1) := dk_172 (dk_at dksX8_year_3 13 rfl rfl)
theorem dX8_year_90 : decode cX8_year 90 = .ok (.aload_n 0, 1) := dk_42 (dk_at dksX8_year_3 14 rfl rfl)
theorem dX8_year_91 : decode cX8_year 91 = .ok (.aload_n 0, 1) := dk_42 (dk_at dksX8_year_3 15 rfl rfl)
theorem dX8_year_92 : decode cX8_year 92 = .ok (.getfield 76, 3) := dk_180 0 76 (dk_at dksX8_year_3 16 rfl rfl)
theorem dX8_year_95 : decode cX8_year 95 = .ok (.invokevirtual 336, 3) := dk_182 1 80 (dk_at dksX8_year_3 19 rfl rfl)
theorem dX8_year_98 : decode cX8_year 98 = .ok (.ireturn, 1) := dk_172 (dk_at dksX8_year_3 22 rfl rfl)
theorem dX8_year_99 : decode cX8_year 99 = .ok (.aload_n 0, 1) := dk_42 (dk_at dksX8_year_3 23 rfl rfl)
theorem dX8_year_100 : decode cX8_year 100 = .ok (.aload_n 0, 1) := dk_42 (dk_at dksX8_year_4 0 rfl rfl)
theorem dX8_year_101 : decode cX8_year 101 = .ok (.getfield 76, 3) := dk_180 0 76 (dk_at dksX8_year_4 1 rfl rfl)
theorem dX8_year_104 : decode cX8_year 104 = .ok (.invokevirtual 332, 3) := dk_182 1 76 (dk_at dksX8_year_4 4 rfl rfl)
theorem dX8_year_107 : decode cX8_year 107 = .ok (.ireturn, 1) := dk_172 (dk_at dksX8_year_4 7 rfl rfl)
abbrev cX8_isYear : ByteArray := prog_30_method_107_code
def yX8_isYear : MethodName := ⟨RX8, "isYear", "(II)Z"⟩
def dkwX8_isYear_1 : List UInt8 := [3, 172]
abbrev dktX8_isYear_1 : List UInt8 := dkwX8_isYear_1 ++ []
def dkwX8_isYear_0 : List UInt8 := [26, 4, 16, 96, 184, 0, 140, 153, 0, 17, 27, 3, 16, 16, 184, 0, 140, 153, 0, 7, 4, 167, 0, 4]
abbrev dktX8_isYear_0 : List UInt8 := dkwX8_isYear_0 ++ dktX8_isYear_1
theorem dksX8_isYear_0 : cX8_isYear.data.toList.drop 0 = dktX8_isYear_0 := by decide +kernel
theorem dksX8_isYear_1 : cX8_isYear.data.toList.drop 24 = dktX8_isYear_1 := dk_seg dksX8_isYear_0 24 rfl rfl
theorem dX8_isYear_0 : decode cX8_isYear 0 = .ok (.iload_n 0, 1) := dk_26 (dk_at dksX8_isYear_0 0 rfl rfl)
theorem dX8_isYear_1 : decode cX8_isYear 1 = .ok (.iconst 1, 1) := dk_4 (dk_at dksX8_isYear_0 1 rfl rfl)
theorem dX8_isYear_2 : decode cX8_isYear 2 = .ok (.bipush 96, 2) := dk_16 96 (dk_at dksX8_isYear_0 2 rfl rfl)
theorem dX8_isYear_4 : decode cX8_isYear 4 = .ok (.invokestatic 140, 3) := dk_184 0 140 (dk_at dksX8_isYear_0 4 rfl rfl)
theorem dX8_isYear_7 : decode cX8_isYear 7 = .ok (.ifCond .eq 17, 3) := dk_153 0 17 (dk_at dksX8_isYear_0 7 rfl rfl)
theorem dX8_isYear_10 : decode cX8_isYear 10 = .ok (.iload_n 1, 1) := dk_27 (dk_at dksX8_isYear_0 10 rfl rfl)
theorem dX8_isYear_11 : decode cX8_isYear 11 = .ok (.iconst 0, 1) := dk_3 (dk_at dksX8_isYear_0 11 rfl rfl)
theorem dX8_isYear_12 : decode cX8_isYear 12 = .ok (.bipush 16, 2) := dk_16 16 (dk_at dksX8_isYear_0 12 rfl rfl)
theorem dX8_isYear_14 : decode cX8_isYear 14 = .ok (.invokestatic 140, 3) := dk_184 0 140 (dk_at dksX8_isYear_0 14 rfl rfl)
theorem dX8_isYear_17 : decode cX8_isYear 17 = .ok (.ifCond .eq 7, 3) := dk_153 0 7 (dk_at dksX8_isYear_0 17 rfl rfl)
theorem dX8_isYear_20 : decode cX8_isYear 20 = .ok (.iconst 1, 1) := dk_4 (dk_at dksX8_isYear_0 20 rfl rfl)
theorem dX8_isYear_21 : decode cX8_isYear 21 = .ok (.goto 4, 3) := dk_167 0 4 (dk_at dksX8_isYear_0 21 rfl rfl)
theorem dX8_isYear_24 : decode cX8_isYear 24 = .ok (.iconst 0, 1) := dk_3 (dk_at dksX8_isYear_1 0 rfl rfl)
theorem dX8_isYear_25 : decode cX8_isYear 25 = .ok (.ireturn, 1) := dk_172 (dk_at dksX8_isYear_1 1 rfl rfl)
abbrev cX8_yearBy : ByteArray := prog_30_method_106_code
def yX8_yearBy : MethodName := ⟨RX8, "yearBy", "(III)V"⟩
def dkwX8_yearBy_5 : List UInt8 := [132, 4, 1, 167, 255, 162, 177]
abbrev dktX8_yearBy_5 : List UInt8 := dkwX8_yearBy_5 ++ []
def dkwX8_yearBy_4 : List UInt8 := [182, 1, 43, 153, 0, 7, 4, 167, 0, 4, 3, 96, 181, 1, 134, 42, 42, 180, 0, 76, 182, 1, 46]
abbrev dktX8_yearBy_4 : List UInt8 := dkwX8_yearBy_4 ++ dktX8_yearBy_5
def dkwX8_yearBy_3 : List UInt8 := [42, 89, 180, 1, 134, 42, 42, 180, 0, 76, 21, 5, 42, 42, 180, 0, 23, 3, 46, 182, 1, 137]
abbrev dktX8_yearBy_3 : List UInt8 := dkwX8_yearBy_3 ++ dktX8_yearBy_4
def dkwX8_yearBy_2 : List UInt8 := [158, 0, 61, 42, 180, 0, 23, 3, 46, 158, 0, 52, 42, 42, 180, 0, 23, 5, 46, 182, 1, 137, 54, 5]
abbrev dktX8_yearBy_2 : List UInt8 := dkwX8_yearBy_2 ++ dktX8_yearBy_3
def dkwX8_yearBy_1 : List UInt8 := [21, 4, 28, 162, 0, 94, 42, 16, 16, 182, 1, 137, 29, 162, 0, 70, 42, 180, 0, 23, 5, 46]
abbrev dktX8_yearBy_1 : List UInt8 := dkwX8_yearBy_1 ++ dktX8_yearBy_2
def dkwX8_yearBy_0 : List UInt8 := [42, 180, 0, 73, 42, 180, 0, 76, 184, 1, 63, 42, 27, 181, 1, 130, 42, 3, 181, 1, 134, 3, 54, 4]
abbrev dktX8_yearBy_0 : List UInt8 := dkwX8_yearBy_0 ++ dktX8_yearBy_1
theorem dksX8_yearBy_0 : cX8_yearBy.data.toList.drop 0 = dktX8_yearBy_0 := by decide +kernel
theorem dksX8_yearBy_1 : cX8_yearBy.data.toList.drop 24 = dktX8_yearBy_1 := dk_seg dksX8_yearBy_0 24 rfl rfl
theorem dksX8_yearBy_2 : cX8_yearBy.data.toList.drop 46 = dktX8_yearBy_2 := dk_seg dksX8_yearBy_1 22 rfl rfl
theorem dksX8_yearBy_3 : cX8_yearBy.data.toList.drop 70 = dktX8_yearBy_3 := dk_seg dksX8_yearBy_2 24 rfl rfl
theorem dksX8_yearBy_4 : cX8_yearBy.data.toList.drop 92 = dktX8_yearBy_4 := dk_seg dksX8_yearBy_3 22 rfl rfl
theorem dksX8_yearBy_5 : cX8_yearBy.data.toList.drop 115 = dktX8_yearBy_5 := dk_seg dksX8_yearBy_4 23 rfl rfl
theorem dX8_yearBy_0 : decode cX8_yearBy 0 = .ok (.aload_n 0, 1) := dk_42 (dk_at dksX8_yearBy_0 0 rfl rfl)
theorem dX8_yearBy_1 : decode cX8_yearBy 1 = .ok (.getfield 73, 3) := dk_180 0 73 (dk_at dksX8_yearBy_0 1 rfl rfl)
theorem dX8_yearBy_4 : decode cX8_yearBy 4 = .ok (.aload_n 0, 1) := dk_42 (dk_at dksX8_yearBy_0 4 rfl rfl)
theorem dX8_yearBy_5 : decode cX8_yearBy 5 = .ok (.getfield 76, 3) := dk_180 0 76 (dk_at dksX8_yearBy_0 5 rfl rfl)
theorem dX8_yearBy_8 : decode cX8_yearBy 8 = .ok (.invokestatic 319, 3) := dk_184 1 63 (dk_at dksX8_yearBy_0 8 rfl rfl)
theorem dX8_yearBy_11 : decode cX8_yearBy 11 = .ok (.aload_n 0, 1) := dk_42 (dk_at dksX8_yearBy_0 11 rfl rfl)
theorem dX8_yearBy_12 : decode cX8_yearBy 12 = .ok (.iload_n 1, 1) := dk_27 (dk_at dksX8_yearBy_0 12 rfl rfl)
theorem dX8_yearBy_13 : decode cX8_yearBy 13 = .ok (.putfield 386, 3) := dk_181 1 130 (dk_at dksX8_yearBy_0 13 rfl rfl)
theorem dX8_yearBy_16 : decode cX8_yearBy 16 = .ok (.aload_n 0, 1) := dk_42 (dk_at dksX8_yearBy_0 16 rfl rfl)
theorem dX8_yearBy_17 : decode cX8_yearBy 17 = .ok (.iconst 0, 1) := dk_3 (dk_at dksX8_yearBy_0 17 rfl rfl)
theorem dX8_yearBy_18 : decode cX8_yearBy 18 = .ok (.putfield 390, 3) := dk_181 1 134 (dk_at dksX8_yearBy_0 18 rfl rfl)
theorem dX8_yearBy_21 : decode cX8_yearBy 21 = .ok (.iconst 0, 1) := dk_3 (dk_at dksX8_yearBy_0 21 rfl rfl)
theorem dX8_yearBy_22 : decode cX8_yearBy 22 = .ok (.istore 4, 2) := dk_54 4 (dk_at dksX8_yearBy_0 22 rfl rfl)
theorem dX8_yearBy_24 : decode cX8_yearBy 24 = .ok (.iload 4, 2) := dk_21 4 (dk_at dksX8_yearBy_1 0 rfl rfl)
theorem dX8_yearBy_26 : decode cX8_yearBy 26 = .ok (.iload_n 2, 1) := dk_28 (dk_at dksX8_yearBy_1 2 rfl rfl)
theorem dX8_yearBy_27 : decode cX8_yearBy 27 = .ok (.if_icmp .ge 94, 3) := dk_162 0 94 (dk_at dksX8_yearBy_1 3 rfl rfl)
theorem dX8_yearBy_30 : decode cX8_yearBy 30 = .ok (.aload_n 0, 1) := dk_42 (dk_at dksX8_yearBy_1 6 rfl rfl)
theorem dX8_yearBy_31 : decode cX8_yearBy 31 = .ok (.bipush 16, 2) := dk_16 16 (dk_at dksX8_yearBy_1 7 rfl rfl)
theorem dX8_yearBy_33 : decode cX8_yearBy 33 = .ok (.invokevirtual 393, 3) := dk_182 1 137 (dk_at dksX8_yearBy_1 9 rfl rfl)
theorem dX8_yearBy_36 : decode cX8_yearBy 36 = .ok (.iload_n 3, 1) := dk_29 (dk_at dksX8_yearBy_1 12 rfl rfl)
theorem dX8_yearBy_37 : decode cX8_yearBy 37 = .ok (.if_icmp .ge 70, 3) := dk_162 0 70 (dk_at dksX8_yearBy_1 13 rfl rfl)
theorem dX8_yearBy_40 : decode cX8_yearBy 40 = .ok (.aload_n 0, 1) := dk_42 (dk_at dksX8_yearBy_1 16 rfl rfl)
theorem dX8_yearBy_41 : decode cX8_yearBy 41 = .ok (.getfield 23, 3) := dk_180 0 23 (dk_at dksX8_yearBy_1 17 rfl rfl)
theorem dX8_yearBy_44 : decode cX8_yearBy 44 = .ok (.iconst 2, 1) := dk_5 (dk_at dksX8_yearBy_1 20 rfl rfl)
theorem dX8_yearBy_45 : decode cX8_yearBy 45 = .ok (.iaload, 1) := dk_46 (dk_at dksX8_yearBy_1 21 rfl rfl)
theorem dX8_yearBy_46 : decode cX8_yearBy 46 = .ok (.ifCond .le 61, 3) := dk_158 0 61 (dk_at dksX8_yearBy_2 0 rfl rfl)
theorem dX8_yearBy_49 : decode cX8_yearBy 49 = .ok (.aload_n 0, 1) := dk_42 (dk_at dksX8_yearBy_2 3 rfl rfl)
theorem dX8_yearBy_50 : decode cX8_yearBy 50 = .ok (.getfield 23, 3) := dk_180 0 23 (dk_at dksX8_yearBy_2 4 rfl rfl)
theorem dX8_yearBy_53 : decode cX8_yearBy 53 = .ok (.iconst 0, 1) := dk_3 (dk_at dksX8_yearBy_2 7 rfl rfl)
theorem dX8_yearBy_54 : decode cX8_yearBy 54 = .ok (.iaload, 1) := dk_46 (dk_at dksX8_yearBy_2 8 rfl rfl)
theorem dX8_yearBy_55 : decode cX8_yearBy 55 = .ok (.ifCond .le 52, 3) := dk_158 0 52 (dk_at dksX8_yearBy_2 9 rfl rfl)
theorem dX8_yearBy_58 : decode cX8_yearBy 58 = .ok (.aload_n 0, 1) := dk_42 (dk_at dksX8_yearBy_2 12 rfl rfl)
theorem dX8_yearBy_59 : decode cX8_yearBy 59 = .ok (.aload_n 0, 1) := dk_42 (dk_at dksX8_yearBy_2 13 rfl rfl)
theorem dX8_yearBy_60 : decode cX8_yearBy 60 = .ok (.getfield 23, 3) := dk_180 0 23 (dk_at dksX8_yearBy_2 14 rfl rfl)
theorem dX8_yearBy_63 : decode cX8_yearBy 63 = .ok (.iconst 2, 1) := dk_5 (dk_at dksX8_yearBy_2 17 rfl rfl)
theorem dX8_yearBy_64 : decode cX8_yearBy 64 = .ok (.iaload, 1) := dk_46 (dk_at dksX8_yearBy_2 18 rfl rfl)
theorem dX8_yearBy_65 : decode cX8_yearBy 65 = .ok (.invokevirtual 393, 3) := dk_182 1 137 (dk_at dksX8_yearBy_2 19 rfl rfl)
theorem dX8_yearBy_68 : decode cX8_yearBy 68 = .ok (.istore 5, 2) := dk_54 5 (dk_at dksX8_yearBy_2 22 rfl rfl)
theorem dX8_yearBy_70 : decode cX8_yearBy 70 = .ok (.aload_n 0, 1) := dk_42 (dk_at dksX8_yearBy_3 0 rfl rfl)
theorem dX8_yearBy_71 : decode cX8_yearBy 71 = .ok (.dup, 1) := dk_89 (dk_at dksX8_yearBy_3 1 rfl rfl)
theorem dX8_yearBy_72 : decode cX8_yearBy 72 = .ok (.getfield 390, 3) := dk_180 1 134 (dk_at dksX8_yearBy_3 2 rfl rfl)
theorem dX8_yearBy_75 : decode cX8_yearBy 75 = .ok (.aload_n 0, 1) := dk_42 (dk_at dksX8_yearBy_3 5 rfl rfl)
theorem dX8_yearBy_76 : decode cX8_yearBy 76 = .ok (.aload_n 0, 1) := dk_42 (dk_at dksX8_yearBy_3 6 rfl rfl)
theorem dX8_yearBy_77 : decode cX8_yearBy 77 = .ok (.getfield 76, 3) := dk_180 0 76 (dk_at dksX8_yearBy_3 7 rfl rfl)
theorem dX8_yearBy_80 : decode cX8_yearBy 80 = .ok (.iload 5, 2) := dk_21 5 (dk_at dksX8_yearBy_3 10 rfl rfl)
theorem dX8_yearBy_82 : decode cX8_yearBy 82 = .ok (.aload_n 0, 1) := dk_42 (dk_at dksX8_yearBy_3 12 rfl rfl)
theorem dX8_yearBy_83 : decode cX8_yearBy 83 = .ok (.aload_n 0, 1) := dk_42 (dk_at dksX8_yearBy_3 13 rfl rfl)
theorem dX8_yearBy_84 : decode cX8_yearBy 84 = .ok (.getfield 23, 3) := dk_180 0 23 (dk_at dksX8_yearBy_3 14 rfl rfl)
theorem dX8_yearBy_87 : decode cX8_yearBy 87 = .ok (.iconst 0, 1) := dk_3 (dk_at dksX8_yearBy_3 17 rfl rfl)
theorem dX8_yearBy_88 : decode cX8_yearBy 88 = .ok (.iaload, 1) := dk_46 (dk_at dksX8_yearBy_3 18 rfl rfl)
theorem dX8_yearBy_89 : decode cX8_yearBy 89 = .ok (.invokevirtual 393, 3) := dk_182 1 137 (dk_at dksX8_yearBy_3 19 rfl rfl)
theorem dX8_yearBy_92 : decode cX8_yearBy 92 = .ok (.invokevirtual 299, 3) := dk_182 1 43 (dk_at dksX8_yearBy_4 0 rfl rfl)
theorem dX8_yearBy_95 : decode cX8_yearBy 95 = .ok (.ifCond .eq 7, 3) := dk_153 0 7 (dk_at dksX8_yearBy_4 3 rfl rfl)
theorem dX8_yearBy_98 : decode cX8_yearBy 98 = .ok (.iconst 1, 1) := dk_4 (dk_at dksX8_yearBy_4 6 rfl rfl)
theorem dX8_yearBy_99 : decode cX8_yearBy 99 = .ok (.goto 4, 3) := dk_167 0 4 (dk_at dksX8_yearBy_4 7 rfl rfl)
theorem dX8_yearBy_102 : decode cX8_yearBy 102 = .ok (.iconst 0, 1) := dk_3 (dk_at dksX8_yearBy_4 10 rfl rfl)
theorem dX8_yearBy_103 : decode cX8_yearBy 103 = .ok (.iadd, 1) := dk_96 (dk_at dksX8_yearBy_4 11 rfl rfl)
theorem dX8_yearBy_104 : decode cX8_yearBy 104 = .ok (.putfield 390, 3) := dk_181 1 134 (dk_at dksX8_yearBy_4 12 rfl rfl)
theorem dX8_yearBy_107 : decode cX8_yearBy 107 = .ok (.aload_n 0, 1) := dk_42 (dk_at dksX8_yearBy_4 15 rfl rfl)
theorem dX8_yearBy_108 : decode cX8_yearBy 108 = .ok (.aload_n 0, 1) := dk_42 (dk_at dksX8_yearBy_4 16 rfl rfl)
theorem dX8_yearBy_109 : decode cX8_yearBy 109 = .ok (.getfield 76, 3) := dk_180 0 76 (dk_at dksX8_yearBy_4 17 rfl rfl)
theorem dX8_yearBy_112 : decode cX8_yearBy 112 = .ok (.invokevirtual 302, 3) := dk_182 1 46 (dk_at dksX8_yearBy_4 20 rfl rfl)
theorem dX8_yearBy_115 : decode cX8_yearBy 115 = .ok (.iinc 4 1, 3) := dk_132 4 1 (dk_at dksX8_yearBy_5 0 rfl rfl)
theorem dX8_yearBy_118 : decode cX8_yearBy 118 = .ok (.goto (-94), 3) := dk_167 255 162 (dk_at dksX8_yearBy_5 3 rfl rfl)
theorem dX8_yearBy_121 : decode cX8_yearBy 121 = .ok (.return_, 1) := dk_177 (dk_at dksX8_yearBy_5 6 rfl rfl)
abbrev cX8_draw : ByteArray := prog_30_method_105_code
def yX8_draw : MethodName := ⟨RX8, "draw", "(I)I"⟩
def dkwX8_draw_1 : List UInt8 := [17, 127, 255, 126, 27, 112, 172]
abbrev dktX8_draw_1 : List UInt8 := dkwX8_draw_1 ++ []
def dkwX8_draw_0 : List UInt8 := [42, 42, 180, 1, 130, 19, 1, 133, 104, 17, 48, 57, 96, 181, 1, 130, 42, 180, 1, 130, 16, 16, 122]
abbrev dktX8_draw_0 : List UInt8 := dkwX8_draw_0 ++ dktX8_draw_1
theorem dksX8_draw_0 : cX8_draw.data.toList.drop 0 = dktX8_draw_0 := by decide +kernel
theorem dksX8_draw_1 : cX8_draw.data.toList.drop 23 = dktX8_draw_1 := dk_seg dksX8_draw_0 23 rfl rfl
theorem dX8_draw_0 : decode cX8_draw 0 = .ok (.aload_n 0, 1) := dk_42 (dk_at dksX8_draw_0 0 rfl rfl)
theorem dX8_draw_1 : decode cX8_draw 1 = .ok (.aload_n 0, 1) := dk_42 (dk_at dksX8_draw_0 1 rfl rfl)
theorem dX8_draw_2 : decode cX8_draw 2 = .ok (.getfield 386, 3) := dk_180 1 130 (dk_at dksX8_draw_0 2 rfl rfl)
theorem dX8_draw_5 : decode cX8_draw 5 = .ok (.ldc_w 389, 3) := dk_19 1 133 (dk_at dksX8_draw_0 5 rfl rfl)
theorem dX8_draw_8 : decode cX8_draw 8 = .ok (.imul, 1) := dk_104 (dk_at dksX8_draw_0 8 rfl rfl)
theorem dX8_draw_9 : decode cX8_draw 9 = .ok (.sipush 12345, 3) := dk_17 48 57 (dk_at dksX8_draw_0 9 rfl rfl)
theorem dX8_draw_12 : decode cX8_draw 12 = .ok (.iadd, 1) := dk_96 (dk_at dksX8_draw_0 12 rfl rfl)
theorem dX8_draw_13 : decode cX8_draw 13 = .ok (.putfield 386, 3) := dk_181 1 130 (dk_at dksX8_draw_0 13 rfl rfl)
theorem dX8_draw_16 : decode cX8_draw 16 = .ok (.aload_n 0, 1) := dk_42 (dk_at dksX8_draw_0 16 rfl rfl)
theorem dX8_draw_17 : decode cX8_draw 17 = .ok (.getfield 386, 3) := dk_180 1 130 (dk_at dksX8_draw_0 17 rfl rfl)
theorem dX8_draw_20 : decode cX8_draw 20 = .ok (.bipush 16, 2) := dk_16 16 (dk_at dksX8_draw_0 20 rfl rfl)
theorem dX8_draw_22 : decode cX8_draw 22 = .ok (.ishr, 1) := dk_122 (dk_at dksX8_draw_0 22 rfl rfl)
theorem dX8_draw_23 : decode cX8_draw 23 = .ok (.sipush 32767, 3) := dk_17 127 255 (dk_at dksX8_draw_1 0 rfl rfl)
theorem dX8_draw_26 : decode cX8_draw 26 = .ok (.iand, 1) := dk_126 (dk_at dksX8_draw_1 3 rfl rfl)
theorem dX8_draw_27 : decode cX8_draw 27 = .ok (.iload_n 1, 1) := dk_27 (dk_at dksX8_draw_1 4 rfl rfl)
theorem dX8_draw_28 : decode cX8_draw 28 = .ok (.irem, 1) := dk_112 (dk_at dksX8_draw_1 5 rfl rfl)
theorem dX8_draw_29 : decode cX8_draw 29 = .ok (.ireturn, 1) := dk_172 (dk_at dksX8_draw_1 6 rfl rfl)
abbrev cX8_span : ByteArray := prog_30_method_109_code
def yX8_span : MethodName := ⟨RX8, "span", "(IIIIII)I"⟩
def dkwX8_span_7 : List UInt8 := [154, 0, 8, 21, 7, 167, 0, 16, 21, 5, 4, 160, 0, 8, 21, 8, 167, 0, 5, 21, 9, 172]
abbrev dktX8_span_7 : List UInt8 := dkwX8_span_7 ++ []
def dkwX8_span_6 : List UInt8 := [21, 6, 184, 1, 114, 153, 0, 7, 4, 167, 0, 4, 3, 96, 54, 9, 132, 10, 1, 167, 255, 168, 21, 5]
abbrev dktX8_span_6 : List UInt8 := dkwX8_span_6 ++ dktX8_span_7
def dkwX8_span_5 : List UInt8 := [184, 0, 249, 54, 7, 21, 8, 21, 11, 184, 0, 252, 54, 8, 21, 9, 42, 42, 180, 0, 76, 182, 1, 127]
abbrev dktX8_span_5 : List UInt8 := dkwX8_span_5 ++ dktX8_span_6
def dkwX8_span_4 : List UInt8 := [182, 1, 127, 184, 1, 111, 54, 11, 21, 7, 2, 160, 0, 8, 21, 11, 167, 0, 10, 21, 7, 21, 11]
abbrev dktX8_span_4 : List UInt8 := dkwX8_span_4 ++ dktX8_span_5
def dkwX8_span_3 : List UInt8 := [54, 10, 21, 10, 28, 162, 0, 88, 42, 27, 21, 10, 96, 29, 21, 4, 182, 1, 143, 42, 42, 180, 0, 76]
abbrev dktX8_span_3 : List UInt8 := dkwX8_span_3 ++ dktX8_span_4
def dkwX8_span_2 : List UInt8 := [167, 0, 4, 3, 4, 4, 182, 0, 189, 153, 0, 5, 3, 172, 2, 54, 7, 3, 54, 8, 3, 54, 9, 3]
abbrev dktX8_span_2 : List UInt8 := dkwX8_span_2 ++ dktX8_span_3
def dkwX8_span_1 : List UInt8 := [153, 0, 22, 21, 5, 3, 5, 184, 0, 140, 153, 0, 12, 42, 21, 6, 182, 1, 83, 154, 0, 7, 4]
abbrev dktX8_span_1 : List UInt8 := dkwX8_span_1 ++ dktX8_span_2
def dkwX8_span_0 : List UInt8 := [42, 3, 181, 0, 106, 42, 28, 4, 16, 20, 184, 0, 140, 153, 0, 31, 29, 21, 4, 184, 1, 140]
abbrev dktX8_span_0 : List UInt8 := dkwX8_span_0 ++ dktX8_span_1
theorem dksX8_span_0 : cX8_span.data.toList.drop 0 = dktX8_span_0 := by decide +kernel
theorem dksX8_span_1 : cX8_span.data.toList.drop 22 = dktX8_span_1 := dk_seg dksX8_span_0 22 rfl rfl
theorem dksX8_span_2 : cX8_span.data.toList.drop 45 = dktX8_span_2 := dk_seg dksX8_span_1 23 rfl rfl
theorem dksX8_span_3 : cX8_span.data.toList.drop 69 = dktX8_span_3 := dk_seg dksX8_span_2 24 rfl rfl
theorem dksX8_span_4 : cX8_span.data.toList.drop 93 = dktX8_span_4 := dk_seg dksX8_span_3 24 rfl rfl
theorem dksX8_span_5 : cX8_span.data.toList.drop 116 = dktX8_span_5 := dk_seg dksX8_span_4 23 rfl rfl
theorem dksX8_span_6 : cX8_span.data.toList.drop 140 = dktX8_span_6 := dk_seg dksX8_span_5 24 rfl rfl
theorem dksX8_span_7 : cX8_span.data.toList.drop 164 = dktX8_span_7 := dk_seg dksX8_span_6 24 rfl rfl
theorem dX8_span_0 : decode cX8_span 0 = .ok (.aload_n 0, 1) := dk_42 (dk_at dksX8_span_0 0 rfl rfl)
theorem dX8_span_1 : decode cX8_span 1 = .ok (.iconst 0, 1) := dk_3 (dk_at dksX8_span_0 1 rfl rfl)
theorem dX8_span_2 : decode cX8_span 2 = .ok (.putfield 106, 3) := dk_181 0 106 (dk_at dksX8_span_0 2 rfl rfl)
theorem dX8_span_5 : decode cX8_span 5 = .ok (.aload_n 0, 1) := dk_42 (dk_at dksX8_span_0 5 rfl rfl)
theorem dX8_span_6 : decode cX8_span 6 = .ok (.iload_n 2, 1) := dk_28 (dk_at dksX8_span_0 6 rfl rfl)
theorem dX8_span_7 : decode cX8_span 7 = .ok (.iconst 1, 1) := dk_4 (dk_at dksX8_span_0 7 rfl rfl)
theorem dX8_span_8 : decode cX8_span 8 = .ok (.bipush 20, 2) := dk_16 20 (dk_at dksX8_span_0 8 rfl rfl)
theorem dX8_span_10 : decode cX8_span 10 = .ok (.invokestatic 140, 3) := dk_184 0 140 (dk_at dksX8_span_0 10 rfl rfl)
theorem dX8_span_13 : decode cX8_span 13 = .ok (.ifCond .eq 31, 3) := dk_153 0 31 (dk_at dksX8_span_0 13 rfl rfl)
theorem dX8_span_16 : decode cX8_span 16 = .ok (.iload_n 3, 1) := dk_29 (dk_at dksX8_span_0 16 rfl rfl)
theorem dX8_span_17 : decode cX8_span 17 = .ok (.iload 4, 2) := dk_21 4 (dk_at dksX8_span_0 17 rfl rfl)
theorem dX8_span_19 : decode cX8_span 19 = .ok (.invokestatic 396, 3) := dk_184 1 140 (dk_at dksX8_span_0 19 rfl rfl)
theorem dX8_span_22 : decode cX8_span 22 = .ok (.ifCond .eq 22, 3) := dk_153 0 22 (dk_at dksX8_span_1 0 rfl rfl)
theorem dX8_span_25 : decode cX8_span 25 = .ok (.iload 5, 2) := dk_21 5 (dk_at dksX8_span_1 3 rfl rfl)
theorem dX8_span_27 : decode cX8_span 27 = .ok (.iconst 0, 1) := dk_3 (dk_at dksX8_span_1 5 rfl rfl)
theorem dX8_span_28 : decode cX8_span 28 = .ok (.iconst 2, 1) := dk_5 (dk_at dksX8_span_1 6 rfl rfl)
theorem dX8_span_29 : decode cX8_span 29 = .ok (.invokestatic 140, 3) := dk_184 0 140 (dk_at dksX8_span_1 7 rfl rfl)
theorem dX8_span_32 : decode cX8_span 32 = .ok (.ifCond .eq 12, 3) := dk_153 0 12 (dk_at dksX8_span_1 10 rfl rfl)
theorem dX8_span_35 : decode cX8_span 35 = .ok (.aload_n 0, 1) := dk_42 (dk_at dksX8_span_1 13 rfl rfl)
theorem dX8_span_36 : decode cX8_span 36 = .ok (.iload 6, 2) := dk_21 6 (dk_at dksX8_span_1 14 rfl rfl)
theorem dX8_span_38 : decode cX8_span 38 = .ok (.invokevirtual 339, 3) := dk_182 1 83 (dk_at dksX8_span_1 16 rfl rfl)
theorem dX8_span_41 : decode cX8_span 41 = .ok (.ifCond .ne 7, 3) := dk_154 0 7 (dk_at dksX8_span_1 19 rfl rfl)
theorem dX8_span_44 : decode cX8_span 44 = .ok (.iconst 1, 1) := dk_4 (dk_at dksX8_span_1 22 rfl rfl)
theorem dX8_span_45 : decode cX8_span 45 = .ok (.goto 4, 3) := dk_167 0 4 (dk_at dksX8_span_2 0 rfl rfl)
theorem dX8_span_48 : decode cX8_span 48 = .ok (.iconst 0, 1) := dk_3 (dk_at dksX8_span_2 3 rfl rfl)
theorem dX8_span_49 : decode cX8_span 49 = .ok (.iconst 1, 1) := dk_4 (dk_at dksX8_span_2 4 rfl rfl)
theorem dX8_span_50 : decode cX8_span 50 = .ok (.iconst 1, 1) := dk_4 (dk_at dksX8_span_2 5 rfl rfl)
theorem dX8_span_51 : decode cX8_span 51 = .ok (.invokevirtual 189, 3) := dk_182 0 189 (dk_at dksX8_span_2 6 rfl rfl)
theorem dX8_span_54 : decode cX8_span 54 = .ok (.ifCond .eq 5, 3) := dk_153 0 5 (dk_at dksX8_span_2 9 rfl rfl)
theorem dX8_span_57 : decode cX8_span 57 = .ok (.iconst 0, 1) := dk_3 (dk_at dksX8_span_2 12 rfl rfl)
theorem dX8_span_58 : decode cX8_span 58 = .ok (.ireturn, 1) := dk_172 (dk_at dksX8_span_2 13 rfl rfl)
theorem dX8_span_59 : decode cX8_span 59 = .ok (.iconst (-1), 1) := dk_2 (dk_at dksX8_span_2 14 rfl rfl)
theorem dX8_span_60 : decode cX8_span 60 = .ok (.istore 7, 2) := dk_54 7 (dk_at dksX8_span_2 15 rfl rfl)
theorem dX8_span_62 : decode cX8_span 62 = .ok (.iconst 0, 1) := dk_3 (dk_at dksX8_span_2 17 rfl rfl)
theorem dX8_span_63 : decode cX8_span 63 = .ok (.istore 8, 2) := dk_54 8 (dk_at dksX8_span_2 18 rfl rfl)
theorem dX8_span_65 : decode cX8_span 65 = .ok (.iconst 0, 1) := dk_3 (dk_at dksX8_span_2 20 rfl rfl)
theorem dX8_span_66 : decode cX8_span 66 = .ok (.istore 9, 2) := dk_54 9 (dk_at dksX8_span_2 21 rfl rfl)
theorem dX8_span_68 : decode cX8_span 68 = .ok (.iconst 0, 1) := dk_3 (dk_at dksX8_span_2 23 rfl rfl)
theorem dX8_span_69 : decode cX8_span 69 = .ok (.istore 10, 2) := dk_54 10 (dk_at dksX8_span_3 0 rfl rfl)
theorem dX8_span_71 : decode cX8_span 71 = .ok (.iload 10, 2) := dk_21 10 (dk_at dksX8_span_3 2 rfl rfl)
theorem dX8_span_73 : decode cX8_span 73 = .ok (.iload_n 2, 1) := dk_28 (dk_at dksX8_span_3 4 rfl rfl)
theorem dX8_span_74 : decode cX8_span 74 = .ok (.if_icmp .ge 88, 3) := dk_162 0 88 (dk_at dksX8_span_3 5 rfl rfl)
theorem dX8_span_77 : decode cX8_span 77 = .ok (.aload_n 0, 1) := dk_42 (dk_at dksX8_span_3 8 rfl rfl)
theorem dX8_span_78 : decode cX8_span 78 = .ok (.iload_n 1, 1) := dk_27 (dk_at dksX8_span_3 9 rfl rfl)
theorem dX8_span_79 : decode cX8_span 79 = .ok (.iload 10, 2) := dk_21 10 (dk_at dksX8_span_3 10 rfl rfl)
theorem dX8_span_81 : decode cX8_span 81 = .ok (.iadd, 1) := dk_96 (dk_at dksX8_span_3 12 rfl rfl)
theorem dX8_span_82 : decode cX8_span 82 = .ok (.iload_n 3, 1) := dk_29 (dk_at dksX8_span_3 13 rfl rfl)
theorem dX8_span_83 : decode cX8_span 83 = .ok (.iload 4, 2) := dk_21 4 (dk_at dksX8_span_3 14 rfl rfl)
theorem dX8_span_85 : decode cX8_span 85 = .ok (.invokevirtual 399, 3) := dk_182 1 143 (dk_at dksX8_span_3 16 rfl rfl)
theorem dX8_span_88 : decode cX8_span 88 = .ok (.aload_n 0, 1) := dk_42 (dk_at dksX8_span_3 19 rfl rfl)
theorem dX8_span_89 : decode cX8_span 89 = .ok (.aload_n 0, 1) := dk_42 (dk_at dksX8_span_3 20 rfl rfl)
theorem dX8_span_90 : decode cX8_span 90 = .ok (.getfield 76, 3) := dk_180 0 76 (dk_at dksX8_span_3 21 rfl rfl)
theorem dX8_span_93 : decode cX8_span 93 = .ok (.invokevirtual 383, 3) := dk_182 1 127 (dk_at dksX8_span_4 0 rfl rfl)
theorem dX8_span_96 : decode cX8_span 96 = .ok (.invokestatic 367, 3) := dk_184 1 111 (dk_at dksX8_span_4 3 rfl rfl)
theorem dX8_span_99 : decode cX8_span 99 = .ok (.istore 11, 2) := dk_54 11 (dk_at dksX8_span_4 6 rfl rfl)
theorem dX8_span_101 : decode cX8_span 101 = .ok (.iload 7, 2) := dk_21 7 (dk_at dksX8_span_4 8 rfl rfl)
theorem dX8_span_103 : decode cX8_span 103 = .ok (.iconst (-1), 1) := dk_2 (dk_at dksX8_span_4 10 rfl rfl)
theorem dX8_span_104 : decode cX8_span 104 = .ok (.if_icmp .ne 8, 3) := dk_160 0 8 (dk_at dksX8_span_4 11 rfl rfl)
theorem dX8_span_107 : decode cX8_span 107 = .ok (.iload 11, 2) := dk_21 11 (dk_at dksX8_span_4 14 rfl rfl)
theorem dX8_span_109 : decode cX8_span 109 = .ok (.goto 10, 3) := dk_167 0 10 (dk_at dksX8_span_4 16 rfl rfl)
theorem dX8_span_112 : decode cX8_span 112 = .ok (.iload 7, 2) := dk_21 7 (dk_at dksX8_span_4 19 rfl rfl)
theorem dX8_span_114 : decode cX8_span 114 = .ok (.iload 11, 2) := dk_21 11 (dk_at dksX8_span_4 21 rfl rfl)
theorem dX8_span_116 : decode cX8_span 116 = .ok (.invokestatic 249, 3) := dk_184 0 249 (dk_at dksX8_span_5 0 rfl rfl)
theorem dX8_span_119 : decode cX8_span 119 = .ok (.istore 7, 2) := dk_54 7 (dk_at dksX8_span_5 3 rfl rfl)
theorem dX8_span_121 : decode cX8_span 121 = .ok (.iload 8, 2) := dk_21 8 (dk_at dksX8_span_5 5 rfl rfl)
theorem dX8_span_123 : decode cX8_span 123 = .ok (.iload 11, 2) := dk_21 11 (dk_at dksX8_span_5 7 rfl rfl)
theorem dX8_span_125 : decode cX8_span 125 = .ok (.invokestatic 252, 3) := dk_184 0 252 (dk_at dksX8_span_5 9 rfl rfl)
theorem dX8_span_128 : decode cX8_span 128 = .ok (.istore 8, 2) := dk_54 8 (dk_at dksX8_span_5 12 rfl rfl)
theorem dX8_span_130 : decode cX8_span 130 = .ok (.iload 9, 2) := dk_21 9 (dk_at dksX8_span_5 14 rfl rfl)
theorem dX8_span_132 : decode cX8_span 132 = .ok (.aload_n 0, 1) := dk_42 (dk_at dksX8_span_5 16 rfl rfl)
theorem dX8_span_133 : decode cX8_span 133 = .ok (.aload_n 0, 1) := dk_42 (dk_at dksX8_span_5 17 rfl rfl)
theorem dX8_span_134 : decode cX8_span 134 = .ok (.getfield 76, 3) := dk_180 0 76 (dk_at dksX8_span_5 18 rfl rfl)
theorem dX8_span_137 : decode cX8_span 137 = .ok (.invokevirtual 383, 3) := dk_182 1 127 (dk_at dksX8_span_5 21 rfl rfl)
theorem dX8_span_140 : decode cX8_span 140 = .ok (.iload 6, 2) := dk_21 6 (dk_at dksX8_span_6 0 rfl rfl)
theorem dX8_span_142 : decode cX8_span 142 = .ok (.invokestatic 370, 3) := dk_184 1 114 (dk_at dksX8_span_6 2 rfl rfl)
theorem dX8_span_145 : decode cX8_span 145 = .ok (.ifCond .eq 7, 3) := dk_153 0 7 (dk_at dksX8_span_6 5 rfl rfl)
theorem dX8_span_148 : decode cX8_span 148 = .ok (.iconst 1, 1) := dk_4 (dk_at dksX8_span_6 8 rfl rfl)
theorem dX8_span_149 : decode cX8_span 149 = .ok (.goto 4, 3) := dk_167 0 4 (dk_at dksX8_span_6 9 rfl rfl)
theorem dX8_span_152 : decode cX8_span 152 = .ok (.iconst 0, 1) := dk_3 (dk_at dksX8_span_6 12 rfl rfl)
theorem dX8_span_153 : decode cX8_span 153 = .ok (.iadd, 1) := dk_96 (dk_at dksX8_span_6 13 rfl rfl)
theorem dX8_span_154 : decode cX8_span 154 = .ok (.istore 9, 2) := dk_54 9 (dk_at dksX8_span_6 14 rfl rfl)
theorem dX8_span_156 : decode cX8_span 156 = .ok (.iinc 10 1, 3) := dk_132 10 1 (dk_at dksX8_span_6 16 rfl rfl)
theorem dX8_span_159 : decode cX8_span 159 = .ok (.goto (-88), 3) := dk_167 255 168 (dk_at dksX8_span_6 19 rfl rfl)
theorem dX8_span_162 : decode cX8_span 162 = .ok (.iload 5, 2) := dk_21 5 (dk_at dksX8_span_6 22 rfl rfl)
theorem dX8_span_164 : decode cX8_span 164 = .ok (.ifCond .ne 8, 3) := dk_154 0 8 (dk_at dksX8_span_7 0 rfl rfl)
theorem dX8_span_167 : decode cX8_span 167 = .ok (.iload 7, 2) := dk_21 7 (dk_at dksX8_span_7 3 rfl rfl)
theorem dX8_span_169 : decode cX8_span 169 = .ok (.goto 16, 3) := dk_167 0 16 (dk_at dksX8_span_7 5 rfl rfl)
theorem dX8_span_172 : decode cX8_span 172 = .ok (.iload 5, 2) := dk_21 5 (dk_at dksX8_span_7 8 rfl rfl)
theorem dX8_span_174 : decode cX8_span 174 = .ok (.iconst 1, 1) := dk_4 (dk_at dksX8_span_7 10 rfl rfl)
theorem dX8_span_175 : decode cX8_span 175 = .ok (.if_icmp .ne 8, 3) := dk_160 0 8 (dk_at dksX8_span_7 11 rfl rfl)
theorem dX8_span_178 : decode cX8_span 178 = .ok (.iload 8, 2) := dk_21 8 (dk_at dksX8_span_7 14 rfl rfl)
theorem dX8_span_180 : decode cX8_span 180 = .ok (.goto 5, 3) := dk_167 0 5 (dk_at dksX8_span_7 16 rfl rfl)
theorem dX8_span_183 : decode cX8_span 183 = .ok (.iload 9, 2) := dk_21 9 (dk_at dksX8_span_7 19 rfl rfl)
theorem dX8_span_185 : decode cX8_span 185 = .ok (.ireturn, 1) := dk_172 (dk_at dksX8_span_7 21 rfl rfl)
abbrev cX8_image : ByteArray := prog_30_method_112_code
def yX8_image : MethodName := ⟨RX8, "image", "()I"⟩
def dkwX8_image_1 : List UInt8 := [50, 3, 182, 1, 153, 42, 89, 180, 0, 218, 4, 96, 181, 0, 218, 42, 180, 0, 218, 172]
abbrev dktX8_image_1 : List UInt8 := dkwX8_image_1 ++ []
def dkwX8_image_0 : List UInt8 := [42, 3, 181, 0, 106, 42, 180, 0, 218, 6, 160, 0, 5, 2, 172, 42, 42, 180, 0, 85, 42, 180, 0, 218]
abbrev dktX8_image_0 : List UInt8 := dkwX8_image_0 ++ dktX8_image_1
theorem dksX8_image_0 : cX8_image.data.toList.drop 0 = dktX8_image_0 := by decide +kernel
theorem dksX8_image_1 : cX8_image.data.toList.drop 24 = dktX8_image_1 := dk_seg dksX8_image_0 24 rfl rfl
theorem dX8_image_0 : decode cX8_image 0 = .ok (.aload_n 0, 1) := dk_42 (dk_at dksX8_image_0 0 rfl rfl)
theorem dX8_image_1 : decode cX8_image 1 = .ok (.iconst 0, 1) := dk_3 (dk_at dksX8_image_0 1 rfl rfl)
theorem dX8_image_2 : decode cX8_image 2 = .ok (.putfield 106, 3) := dk_181 0 106 (dk_at dksX8_image_0 2 rfl rfl)
theorem dX8_image_5 : decode cX8_image 5 = .ok (.aload_n 0, 1) := dk_42 (dk_at dksX8_image_0 5 rfl rfl)
theorem dX8_image_6 : decode cX8_image 6 = .ok (.getfield 218, 3) := dk_180 0 218 (dk_at dksX8_image_0 6 rfl rfl)
theorem dX8_image_9 : decode cX8_image 9 = .ok (.iconst 3, 1) := dk_6 (dk_at dksX8_image_0 9 rfl rfl)
theorem dX8_image_10 : decode cX8_image 10 = .ok (.if_icmp .ne 5, 3) := dk_160 0 5 (dk_at dksX8_image_0 10 rfl rfl)
theorem dX8_image_13 : decode cX8_image 13 = .ok (.iconst (-1), 1) := dk_2 (dk_at dksX8_image_0 13 rfl rfl)
theorem dX8_image_14 : decode cX8_image 14 = .ok (.ireturn, 1) := dk_172 (dk_at dksX8_image_0 14 rfl rfl)
theorem dX8_image_15 : decode cX8_image 15 = .ok (.aload_n 0, 1) := dk_42 (dk_at dksX8_image_0 15 rfl rfl)
theorem dX8_image_16 : decode cX8_image 16 = .ok (.aload_n 0, 1) := dk_42 (dk_at dksX8_image_0 16 rfl rfl)
theorem dX8_image_17 : decode cX8_image 17 = .ok (.getfield 85, 3) := dk_180 0 85 (dk_at dksX8_image_0 17 rfl rfl)
theorem dX8_image_20 : decode cX8_image 20 = .ok (.aload_n 0, 1) := dk_42 (dk_at dksX8_image_0 20 rfl rfl)
theorem dX8_image_21 : decode cX8_image 21 = .ok (.getfield 218, 3) := dk_180 0 218 (dk_at dksX8_image_0 21 rfl rfl)
theorem dX8_image_24 : decode cX8_image 24 = .ok (.aaload, 1) := dk_50 (dk_at dksX8_image_1 0 rfl rfl)
theorem dX8_image_25 : decode cX8_image 25 = .ok (.iconst 0, 1) := dk_3 (dk_at dksX8_image_1 1 rfl rfl)
theorem dX8_image_26 : decode cX8_image 26 = .ok (.invokevirtual 409, 3) := dk_182 1 153 (dk_at dksX8_image_1 2 rfl rfl)
theorem dX8_image_29 : decode cX8_image 29 = .ok (.aload_n 0, 1) := dk_42 (dk_at dksX8_image_1 5 rfl rfl)
theorem dX8_image_30 : decode cX8_image 30 = .ok (.dup, 1) := dk_89 (dk_at dksX8_image_1 6 rfl rfl)
theorem dX8_image_31 : decode cX8_image 31 = .ok (.getfield 218, 3) := dk_180 0 218 (dk_at dksX8_image_1 7 rfl rfl)
theorem dX8_image_34 : decode cX8_image 34 = .ok (.iconst 1, 1) := dk_4 (dk_at dksX8_image_1 10 rfl rfl)
theorem dX8_image_35 : decode cX8_image 35 = .ok (.iadd, 1) := dk_96 (dk_at dksX8_image_1 11 rfl rfl)
theorem dX8_image_36 : decode cX8_image 36 = .ok (.putfield 218, 3) := dk_181 0 218 (dk_at dksX8_image_1 12 rfl rfl)
theorem dX8_image_39 : decode cX8_image 39 = .ok (.aload_n 0, 1) := dk_42 (dk_at dksX8_image_1 15 rfl rfl)
theorem dX8_image_40 : decode cX8_image 40 = .ok (.getfield 218, 3) := dk_180 0 218 (dk_at dksX8_image_1 16 rfl rfl)
theorem dX8_image_43 : decode cX8_image 43 = .ok (.ireturn, 1) := dk_172 (dk_at dksX8_image_1 19 rfl rfl)
abbrev cX8_putsAll : ByteArray := prog_30_method_111_code
def yX8_putsAll : MethodName := ⟨RX8, "putsAll", "([IZ)V"⟩
def dkwX8_putsAll_4 : List UInt8 := [132, 4, 1, 167, 255, 222, 132, 3, 1, 167, 255, 207, 177]
abbrev dktX8_putsAll_4 : List UInt8 := dkwX8_putsAll_4 ++ []
def dkwX8_putsAll_3 : List UInt8 := [180, 0, 82, 29, 50, 21, 4, 42, 43, 42, 180, 0, 82, 29, 50, 21, 4, 46, 28, 182, 1, 149, 79]
abbrev dktX8_putsAll_3 : List UInt8 := dkwX8_putsAll_3 ++ dktX8_putsAll_4
def dkwX8_putsAll_2 : List UInt8 := [167, 255, 229, 3, 62, 29, 16, 16, 162, 0, 49, 3, 54, 4, 21, 4, 16, 100, 162, 0, 33, 42]
abbrev dktX8_putsAll_2 : List UInt8 := dkwX8_putsAll_2 ++ dktX8_putsAll_3
def dkwX8_putsAll_1 : List UInt8 := [162, 0, 27, 42, 180, 0, 73, 29, 42, 43, 42, 180, 0, 73, 29, 46, 28, 182, 1, 149, 79, 132, 3, 1]
abbrev dktX8_putsAll_1 : List UInt8 := dkwX8_putsAll_1 ++ dktX8_putsAll_2
def dkwX8_putsAll_0 : List UInt8 := [42, 3, 181, 1, 146, 42, 42, 43, 42, 180, 0, 212, 28, 182, 1, 149, 181, 0, 212, 3, 62, 29, 16, 100]
abbrev dktX8_putsAll_0 : List UInt8 := dkwX8_putsAll_0 ++ dktX8_putsAll_1
theorem dksX8_putsAll_0 : cX8_putsAll.data.toList.drop 0 = dktX8_putsAll_0 := by decide +kernel
theorem dksX8_putsAll_1 : cX8_putsAll.data.toList.drop 24 = dktX8_putsAll_1 := dk_seg dksX8_putsAll_0 24 rfl rfl
theorem dksX8_putsAll_2 : cX8_putsAll.data.toList.drop 48 = dktX8_putsAll_2 := dk_seg dksX8_putsAll_1 24 rfl rfl
theorem dksX8_putsAll_3 : cX8_putsAll.data.toList.drop 70 = dktX8_putsAll_3 := dk_seg dksX8_putsAll_2 22 rfl rfl
theorem dksX8_putsAll_4 : cX8_putsAll.data.toList.drop 93 = dktX8_putsAll_4 := dk_seg dksX8_putsAll_3 23 rfl rfl
theorem dX8_putsAll_0 : decode cX8_putsAll 0 = .ok (.aload_n 0, 1) := dk_42 (dk_at dksX8_putsAll_0 0 rfl rfl)
theorem dX8_putsAll_1 : decode cX8_putsAll 1 = .ok (.iconst 0, 1) := dk_3 (dk_at dksX8_putsAll_0 1 rfl rfl)
theorem dX8_putsAll_2 : decode cX8_putsAll 2 = .ok (.putfield 402, 3) := dk_181 1 146 (dk_at dksX8_putsAll_0 2 rfl rfl)
theorem dX8_putsAll_5 : decode cX8_putsAll 5 = .ok (.aload_n 0, 1) := dk_42 (dk_at dksX8_putsAll_0 5 rfl rfl)
theorem dX8_putsAll_6 : decode cX8_putsAll 6 = .ok (.aload_n 0, 1) := dk_42 (dk_at dksX8_putsAll_0 6 rfl rfl)
theorem dX8_putsAll_7 : decode cX8_putsAll 7 = .ok (.aload_n 1, 1) := dk_43 (dk_at dksX8_putsAll_0 7 rfl rfl)
theorem dX8_putsAll_8 : decode cX8_putsAll 8 = .ok (.aload_n 0, 1) := dk_42 (dk_at dksX8_putsAll_0 8 rfl rfl)
theorem dX8_putsAll_9 : decode cX8_putsAll 9 = .ok (.getfield 212, 3) := dk_180 0 212 (dk_at dksX8_putsAll_0 9 rfl rfl)
theorem dX8_putsAll_12 : decode cX8_putsAll 12 = .ok (.iload_n 2, 1) := dk_28 (dk_at dksX8_putsAll_0 12 rfl rfl)
theorem dX8_putsAll_13 : decode cX8_putsAll 13 = .ok (.invokevirtual 405, 3) := dk_182 1 149 (dk_at dksX8_putsAll_0 13 rfl rfl)
theorem dX8_putsAll_16 : decode cX8_putsAll 16 = .ok (.putfield 212, 3) := dk_181 0 212 (dk_at dksX8_putsAll_0 16 rfl rfl)
theorem dX8_putsAll_19 : decode cX8_putsAll 19 = .ok (.iconst 0, 1) := dk_3 (dk_at dksX8_putsAll_0 19 rfl rfl)
theorem dX8_putsAll_20 : decode cX8_putsAll 20 = .ok (.istore_n 3, 1) := dk_62 (dk_at dksX8_putsAll_0 20 rfl rfl)
theorem dX8_putsAll_21 : decode cX8_putsAll 21 = .ok (.iload_n 3, 1) := dk_29 (dk_at dksX8_putsAll_0 21 rfl rfl)
theorem dX8_putsAll_22 : decode cX8_putsAll 22 = .ok (.bipush 100, 2) := dk_16 100 (dk_at dksX8_putsAll_0 22 rfl rfl)
theorem dX8_putsAll_24 : decode cX8_putsAll 24 = .ok (.if_icmp .ge 27, 3) := dk_162 0 27 (dk_at dksX8_putsAll_1 0 rfl rfl)
theorem dX8_putsAll_27 : decode cX8_putsAll 27 = .ok (.aload_n 0, 1) := dk_42 (dk_at dksX8_putsAll_1 3 rfl rfl)
theorem dX8_putsAll_28 : decode cX8_putsAll 28 = .ok (.getfield 73, 3) := dk_180 0 73 (dk_at dksX8_putsAll_1 4 rfl rfl)
theorem dX8_putsAll_31 : decode cX8_putsAll 31 = .ok (.iload_n 3, 1) := dk_29 (dk_at dksX8_putsAll_1 7 rfl rfl)
theorem dX8_putsAll_32 : decode cX8_putsAll 32 = .ok (.aload_n 0, 1) := dk_42 (dk_at dksX8_putsAll_1 8 rfl rfl)
theorem dX8_putsAll_33 : decode cX8_putsAll 33 = .ok (.aload_n 1, 1) := dk_43 (dk_at dksX8_putsAll_1 9 rfl rfl)
theorem dX8_putsAll_34 : decode cX8_putsAll 34 = .ok (.aload_n 0, 1) := dk_42 (dk_at dksX8_putsAll_1 10 rfl rfl)
theorem dX8_putsAll_35 : decode cX8_putsAll 35 = .ok (.getfield 73, 3) := dk_180 0 73 (dk_at dksX8_putsAll_1 11 rfl rfl)
theorem dX8_putsAll_38 : decode cX8_putsAll 38 = .ok (.iload_n 3, 1) := dk_29 (dk_at dksX8_putsAll_1 14 rfl rfl)
theorem dX8_putsAll_39 : decode cX8_putsAll 39 = .ok (.iaload, 1) := dk_46 (dk_at dksX8_putsAll_1 15 rfl rfl)
theorem dX8_putsAll_40 : decode cX8_putsAll 40 = .ok (.iload_n 2, 1) := dk_28 (dk_at dksX8_putsAll_1 16 rfl rfl)
theorem dX8_putsAll_41 : decode cX8_putsAll 41 = .ok (.invokevirtual 405, 3) := dk_182 1 149 (dk_at dksX8_putsAll_1 17 rfl rfl)
theorem dX8_putsAll_44 : decode cX8_putsAll 44 = .ok (.iastore, 1) := dk_79 (dk_at dksX8_putsAll_1 20 rfl rfl)
theorem dX8_putsAll_45 : decode cX8_putsAll 45 = .ok (.iinc 3 1, 3) := dk_132 3 1 (dk_at dksX8_putsAll_1 21 rfl rfl)
theorem dX8_putsAll_48 : decode cX8_putsAll 48 = .ok (.goto (-27), 3) := dk_167 255 229 (dk_at dksX8_putsAll_2 0 rfl rfl)
theorem dX8_putsAll_51 : decode cX8_putsAll 51 = .ok (.iconst 0, 1) := dk_3 (dk_at dksX8_putsAll_2 3 rfl rfl)
theorem dX8_putsAll_52 : decode cX8_putsAll 52 = .ok (.istore_n 3, 1) := dk_62 (dk_at dksX8_putsAll_2 4 rfl rfl)
theorem dX8_putsAll_53 : decode cX8_putsAll 53 = .ok (.iload_n 3, 1) := dk_29 (dk_at dksX8_putsAll_2 5 rfl rfl)
theorem dX8_putsAll_54 : decode cX8_putsAll 54 = .ok (.bipush 16, 2) := dk_16 16 (dk_at dksX8_putsAll_2 6 rfl rfl)
theorem dX8_putsAll_56 : decode cX8_putsAll 56 = .ok (.if_icmp .ge 49, 3) := dk_162 0 49 (dk_at dksX8_putsAll_2 8 rfl rfl)
theorem dX8_putsAll_59 : decode cX8_putsAll 59 = .ok (.iconst 0, 1) := dk_3 (dk_at dksX8_putsAll_2 11 rfl rfl)
theorem dX8_putsAll_60 : decode cX8_putsAll 60 = .ok (.istore 4, 2) := dk_54 4 (dk_at dksX8_putsAll_2 12 rfl rfl)
theorem dX8_putsAll_62 : decode cX8_putsAll 62 = .ok (.iload 4, 2) := dk_21 4 (dk_at dksX8_putsAll_2 14 rfl rfl)
theorem dX8_putsAll_64 : decode cX8_putsAll 64 = .ok (.bipush 100, 2) := dk_16 100 (dk_at dksX8_putsAll_2 16 rfl rfl)
theorem dX8_putsAll_66 : decode cX8_putsAll 66 = .ok (.if_icmp .ge 33, 3) := dk_162 0 33 (dk_at dksX8_putsAll_2 18 rfl rfl)
theorem dX8_putsAll_69 : decode cX8_putsAll 69 = .ok (.aload_n 0, 1) := dk_42 (dk_at dksX8_putsAll_2 21 rfl rfl)
theorem dX8_putsAll_70 : decode cX8_putsAll 70 = .ok (.getfield 82, 3) := dk_180 0 82 (dk_at dksX8_putsAll_3 0 rfl rfl)
theorem dX8_putsAll_73 : decode cX8_putsAll 73 = .ok (.iload_n 3, 1) := dk_29 (dk_at dksX8_putsAll_3 3 rfl rfl)
theorem dX8_putsAll_74 : decode cX8_putsAll 74 = .ok (.aaload, 1) := dk_50 (dk_at dksX8_putsAll_3 4 rfl rfl)
theorem dX8_putsAll_75 : decode cX8_putsAll 75 = .ok (.iload 4, 2) := dk_21 4 (dk_at dksX8_putsAll_3 5 rfl rfl)
theorem dX8_putsAll_77 : decode cX8_putsAll 77 = .ok (.aload_n 0, 1) := dk_42 (dk_at dksX8_putsAll_3 7 rfl rfl)
theorem dX8_putsAll_78 : decode cX8_putsAll 78 = .ok (.aload_n 1, 1) := dk_43 (dk_at dksX8_putsAll_3 8 rfl rfl)
theorem dX8_putsAll_79 : decode cX8_putsAll 79 = .ok (.aload_n 0, 1) := dk_42 (dk_at dksX8_putsAll_3 9 rfl rfl)
theorem dX8_putsAll_80 : decode cX8_putsAll 80 = .ok (.getfield 82, 3) := dk_180 0 82 (dk_at dksX8_putsAll_3 10 rfl rfl)
theorem dX8_putsAll_83 : decode cX8_putsAll 83 = .ok (.iload_n 3, 1) := dk_29 (dk_at dksX8_putsAll_3 13 rfl rfl)
theorem dX8_putsAll_84 : decode cX8_putsAll 84 = .ok (.aaload, 1) := dk_50 (dk_at dksX8_putsAll_3 14 rfl rfl)
theorem dX8_putsAll_85 : decode cX8_putsAll 85 = .ok (.iload 4, 2) := dk_21 4 (dk_at dksX8_putsAll_3 15 rfl rfl)
theorem dX8_putsAll_87 : decode cX8_putsAll 87 = .ok (.iaload, 1) := dk_46 (dk_at dksX8_putsAll_3 17 rfl rfl)
theorem dX8_putsAll_88 : decode cX8_putsAll 88 = .ok (.iload_n 2, 1) := dk_28 (dk_at dksX8_putsAll_3 18 rfl rfl)
theorem dX8_putsAll_89 : decode cX8_putsAll 89 = .ok (.invokevirtual 405, 3) := dk_182 1 149 (dk_at dksX8_putsAll_3 19 rfl rfl)
theorem dX8_putsAll_92 : decode cX8_putsAll 92 = .ok (.iastore, 1) := dk_79 (dk_at dksX8_putsAll_3 22 rfl rfl)
theorem dX8_putsAll_93 : decode cX8_putsAll 93 = .ok (.iinc 4 1, 3) := dk_132 4 1 (dk_at dksX8_putsAll_4 0 rfl rfl)
theorem dX8_putsAll_96 : decode cX8_putsAll 96 = .ok (.goto (-34), 3) := dk_167 255 222 (dk_at dksX8_putsAll_4 3 rfl rfl)
theorem dX8_putsAll_99 : decode cX8_putsAll 99 = .ok (.iinc 3 1, 3) := dk_132 3 1 (dk_at dksX8_putsAll_4 6 rfl rfl)
theorem dX8_putsAll_102 : decode cX8_putsAll 102 = .ok (.goto (-49), 3) := dk_167 255 207 (dk_at dksX8_putsAll_4 9 rfl rfl)
theorem dX8_putsAll_105 : decode cX8_putsAll 105 = .ok (.return_, 1) := dk_177 (dk_at dksX8_putsAll_4 12 rfl rfl)
abbrev cX8_puts : ByteArray := prog_30_method_110_code
def yX8_puts : MethodName := ⟨RX8, "puts", "([IIZ)I"⟩
def dkwX8_puts_1 : List UInt8 := [180, 1, 146, 4, 100, 46, 172]
abbrev dktX8_puts_1 : List UInt8 := dkwX8_puts_1 ++ []
def dkwX8_puts_0 : List UInt8 := [29, 154, 0, 10, 43, 42, 180, 1, 146, 28, 79, 42, 89, 180, 1, 146, 4, 96, 181, 1, 146, 43, 42]
abbrev dktX8_puts_0 : List UInt8 := dkwX8_puts_0 ++ dktX8_puts_1
theorem dksX8_puts_0 : cX8_puts.data.toList.drop 0 = dktX8_puts_0 := by decide +kernel
theorem dksX8_puts_1 : cX8_puts.data.toList.drop 23 = dktX8_puts_1 := dk_seg dksX8_puts_0 23 rfl rfl
theorem dX8_puts_0 : decode cX8_puts 0 = .ok (.iload_n 3, 1) := dk_29 (dk_at dksX8_puts_0 0 rfl rfl)
theorem dX8_puts_1 : decode cX8_puts 1 = .ok (.ifCond .ne 10, 3) := dk_154 0 10 (dk_at dksX8_puts_0 1 rfl rfl)
theorem dX8_puts_4 : decode cX8_puts 4 = .ok (.aload_n 1, 1) := dk_43 (dk_at dksX8_puts_0 4 rfl rfl)
theorem dX8_puts_5 : decode cX8_puts 5 = .ok (.aload_n 0, 1) := dk_42 (dk_at dksX8_puts_0 5 rfl rfl)
theorem dX8_puts_6 : decode cX8_puts 6 = .ok (.getfield 402, 3) := dk_180 1 146 (dk_at dksX8_puts_0 6 rfl rfl)
theorem dX8_puts_9 : decode cX8_puts 9 = .ok (.iload_n 2, 1) := dk_28 (dk_at dksX8_puts_0 9 rfl rfl)
theorem dX8_puts_10 : decode cX8_puts 10 = .ok (.iastore, 1) := dk_79 (dk_at dksX8_puts_0 10 rfl rfl)
theorem dX8_puts_11 : decode cX8_puts 11 = .ok (.aload_n 0, 1) := dk_42 (dk_at dksX8_puts_0 11 rfl rfl)
theorem dX8_puts_12 : decode cX8_puts 12 = .ok (.dup, 1) := dk_89 (dk_at dksX8_puts_0 12 rfl rfl)
theorem dX8_puts_13 : decode cX8_puts 13 = .ok (.getfield 402, 3) := dk_180 1 146 (dk_at dksX8_puts_0 13 rfl rfl)
theorem dX8_puts_16 : decode cX8_puts 16 = .ok (.iconst 1, 1) := dk_4 (dk_at dksX8_puts_0 16 rfl rfl)
theorem dX8_puts_17 : decode cX8_puts 17 = .ok (.iadd, 1) := dk_96 (dk_at dksX8_puts_0 17 rfl rfl)
theorem dX8_puts_18 : decode cX8_puts 18 = .ok (.putfield 402, 3) := dk_181 1 146 (dk_at dksX8_puts_0 18 rfl rfl)
theorem dX8_puts_21 : decode cX8_puts 21 = .ok (.aload_n 1, 1) := dk_43 (dk_at dksX8_puts_0 21 rfl rfl)
theorem dX8_puts_22 : decode cX8_puts 22 = .ok (.aload_n 0, 1) := dk_42 (dk_at dksX8_puts_0 22 rfl rfl)
theorem dX8_puts_23 : decode cX8_puts 23 = .ok (.getfield 402, 3) := dk_180 1 146 (dk_at dksX8_puts_1 0 rfl rfl)
theorem dX8_puts_26 : decode cX8_puts 26 = .ok (.iconst 1, 1) := dk_4 (dk_at dksX8_puts_1 3 rfl rfl)
theorem dX8_puts_27 : decode cX8_puts 27 = .ok (.isub, 1) := dk_100 (dk_at dksX8_puts_1 4 rfl rfl)
theorem dX8_puts_28 : decode cX8_puts 28 = .ok (.iaload, 1) := dk_46 (dk_at dksX8_puts_1 5 rfl rfl)
theorem dX8_puts_29 : decode cX8_puts 29 = .ok (.ireturn, 1) := dk_172 (dk_at dksX8_puts_1 6 rfl rfl)
abbrev cX8_restore : ByteArray := prog_30_method_113_code
def yX8_restore : MethodName := ⟨RX8, "restore", "()I"⟩
def dkwX8_restore_1 : List UInt8 := [42, 42, 180, 0, 85, 42, 180, 0, 218, 50, 4, 182, 1, 153, 42, 3, 181, 0, 215, 42, 180, 0, 218, 172]
abbrev dktX8_restore_1 : List UInt8 := dkwX8_restore_1 ++ []
def dkwX8_restore_0 : List UInt8 := [42, 3, 181, 0, 106, 42, 180, 0, 218, 154, 0, 5, 2, 172, 42, 89, 180, 0, 218, 4, 100, 181, 0, 218]
abbrev dktX8_restore_0 : List UInt8 := dkwX8_restore_0 ++ dktX8_restore_1
theorem dksX8_restore_0 : cX8_restore.data.toList.drop 0 = dktX8_restore_0 := by decide +kernel
theorem dksX8_restore_1 : cX8_restore.data.toList.drop 24 = dktX8_restore_1 := dk_seg dksX8_restore_0 24 rfl rfl
theorem dX8_restore_0 : decode cX8_restore 0 = .ok (.aload_n 0, 1) := dk_42 (dk_at dksX8_restore_0 0 rfl rfl)
theorem dX8_restore_1 : decode cX8_restore 1 = .ok (.iconst 0, 1) := dk_3 (dk_at dksX8_restore_0 1 rfl rfl)
theorem dX8_restore_2 : decode cX8_restore 2 = .ok (.putfield 106, 3) := dk_181 0 106 (dk_at dksX8_restore_0 2 rfl rfl)
theorem dX8_restore_5 : decode cX8_restore 5 = .ok (.aload_n 0, 1) := dk_42 (dk_at dksX8_restore_0 5 rfl rfl)
theorem dX8_restore_6 : decode cX8_restore 6 = .ok (.getfield 218, 3) := dk_180 0 218 (dk_at dksX8_restore_0 6 rfl rfl)
theorem dX8_restore_9 : decode cX8_restore 9 = .ok (.ifCond .ne 5, 3) := dk_154 0 5 (dk_at dksX8_restore_0 9 rfl rfl)
theorem dX8_restore_12 : decode cX8_restore 12 = .ok (.iconst (-1), 1) := dk_2 (dk_at dksX8_restore_0 12 rfl rfl)
theorem dX8_restore_13 : decode cX8_restore 13 = .ok (.ireturn, 1) := dk_172 (dk_at dksX8_restore_0 13 rfl rfl)
theorem dX8_restore_14 : decode cX8_restore 14 = .ok (.aload_n 0, 1) := dk_42 (dk_at dksX8_restore_0 14 rfl rfl)
theorem dX8_restore_15 : decode cX8_restore 15 = .ok (.dup, 1) := dk_89 (dk_at dksX8_restore_0 15 rfl rfl)
theorem dX8_restore_16 : decode cX8_restore 16 = .ok (.getfield 218, 3) := dk_180 0 218 (dk_at dksX8_restore_0 16 rfl rfl)
theorem dX8_restore_19 : decode cX8_restore 19 = .ok (.iconst 1, 1) := dk_4 (dk_at dksX8_restore_0 19 rfl rfl)
theorem dX8_restore_20 : decode cX8_restore 20 = .ok (.isub, 1) := dk_100 (dk_at dksX8_restore_0 20 rfl rfl)
theorem dX8_restore_21 : decode cX8_restore 21 = .ok (.putfield 218, 3) := dk_181 0 218 (dk_at dksX8_restore_0 21 rfl rfl)
theorem dX8_restore_24 : decode cX8_restore 24 = .ok (.aload_n 0, 1) := dk_42 (dk_at dksX8_restore_1 0 rfl rfl)
theorem dX8_restore_25 : decode cX8_restore 25 = .ok (.aload_n 0, 1) := dk_42 (dk_at dksX8_restore_1 1 rfl rfl)
theorem dX8_restore_26 : decode cX8_restore 26 = .ok (.getfield 85, 3) := dk_180 0 85 (dk_at dksX8_restore_1 2 rfl rfl)
theorem dX8_restore_29 : decode cX8_restore 29 = .ok (.aload_n 0, 1) := dk_42 (dk_at dksX8_restore_1 5 rfl rfl)
theorem dX8_restore_30 : decode cX8_restore 30 = .ok (.getfield 218, 3) := dk_180 0 218 (dk_at dksX8_restore_1 6 rfl rfl)
theorem dX8_restore_33 : decode cX8_restore 33 = .ok (.aaload, 1) := dk_50 (dk_at dksX8_restore_1 9 rfl rfl)
theorem dX8_restore_34 : decode cX8_restore 34 = .ok (.iconst 1, 1) := dk_4 (dk_at dksX8_restore_1 10 rfl rfl)
theorem dX8_restore_35 : decode cX8_restore 35 = .ok (.invokevirtual 409, 3) := dk_182 1 153 (dk_at dksX8_restore_1 11 rfl rfl)
theorem dX8_restore_38 : decode cX8_restore 38 = .ok (.aload_n 0, 1) := dk_42 (dk_at dksX8_restore_1 14 rfl rfl)
theorem dX8_restore_39 : decode cX8_restore 39 = .ok (.iconst 0, 1) := dk_3 (dk_at dksX8_restore_1 15 rfl rfl)
theorem dX8_restore_40 : decode cX8_restore 40 = .ok (.putfield 215, 3) := dk_181 0 215 (dk_at dksX8_restore_1 16 rfl rfl)
theorem dX8_restore_43 : decode cX8_restore 43 = .ok (.aload_n 0, 1) := dk_42 (dk_at dksX8_restore_1 19 rfl rfl)
theorem dX8_restore_44 : decode cX8_restore 44 = .ok (.getfield 218, 3) := dk_180 0 218 (dk_at dksX8_restore_1 20 rfl rfl)
theorem dX8_restore_47 : decode cX8_restore 47 = .ok (.ireturn, 1) := dk_172 (dk_at dksX8_restore_1 23 rfl rfl)
abbrev cX8_status : ByteArray := prog_30_method_114_code
def yX8_status : MethodName := ⟨RX8, "status", "(I)I"⟩
def dkwX8_status_1 : List UInt8 := [172]
abbrev dktX8_status_1 : List UInt8 := dkwX8_status_1 ++ []
def dkwX8_status_0 : List UInt8 := [42, 3, 181, 0, 106, 27, 3, 4, 184, 0, 140, 153, 0, 12, 42, 180, 0, 17, 27, 46, 167, 0, 4, 2]
abbrev dktX8_status_0 : List UInt8 := dkwX8_status_0 ++ dktX8_status_1
theorem dksX8_status_0 : cX8_status.data.toList.drop 0 = dktX8_status_0 := by decide +kernel
theorem dksX8_status_1 : cX8_status.data.toList.drop 24 = dktX8_status_1 := dk_seg dksX8_status_0 24 rfl rfl
theorem dX8_status_0 : decode cX8_status 0 = .ok (.aload_n 0, 1) := dk_42 (dk_at dksX8_status_0 0 rfl rfl)
theorem dX8_status_1 : decode cX8_status 1 = .ok (.iconst 0, 1) := dk_3 (dk_at dksX8_status_0 1 rfl rfl)
theorem dX8_status_2 : decode cX8_status 2 = .ok (.putfield 106, 3) := dk_181 0 106 (dk_at dksX8_status_0 2 rfl rfl)
theorem dX8_status_5 : decode cX8_status 5 = .ok (.iload_n 1, 1) := dk_27 (dk_at dksX8_status_0 5 rfl rfl)
theorem dX8_status_6 : decode cX8_status 6 = .ok (.iconst 0, 1) := dk_3 (dk_at dksX8_status_0 6 rfl rfl)
theorem dX8_status_7 : decode cX8_status 7 = .ok (.iconst 1, 1) := dk_4 (dk_at dksX8_status_0 7 rfl rfl)
theorem dX8_status_8 : decode cX8_status 8 = .ok (.invokestatic 140, 3) := dk_184 0 140 (dk_at dksX8_status_0 8 rfl rfl)
theorem dX8_status_11 : decode cX8_status 11 = .ok (.ifCond .eq 12, 3) := dk_153 0 12 (dk_at dksX8_status_0 11 rfl rfl)
theorem dX8_status_14 : decode cX8_status 14 = .ok (.aload_n 0, 1) := dk_42 (dk_at dksX8_status_0 14 rfl rfl)
theorem dX8_status_15 : decode cX8_status 15 = .ok (.getfield 17, 3) := dk_180 0 17 (dk_at dksX8_status_0 15 rfl rfl)
theorem dX8_status_18 : decode cX8_status 18 = .ok (.iload_n 1, 1) := dk_27 (dk_at dksX8_status_0 18 rfl rfl)
theorem dX8_status_19 : decode cX8_status 19 = .ok (.iaload, 1) := dk_46 (dk_at dksX8_status_0 19 rfl rfl)
theorem dX8_status_20 : decode cX8_status 20 = .ok (.goto 4, 3) := dk_167 0 4 (dk_at dksX8_status_0 20 rfl rfl)
theorem dX8_status_23 : decode cX8_status 23 = .ok (.iconst (-1), 1) := dk_2 (dk_at dksX8_status_0 23 rfl rfl)
theorem dX8_status_24 : decode cX8_status 24 = .ok (.ireturn, 1) := dk_172 (dk_at dksX8_status_1 0 rfl rfl)
abbrev cX8_count : ByteArray := prog_30_method_115_code
def yX8_count : MethodName := ⟨RX8, "count", "(I)I"⟩
def dkwX8_count_1 : List UInt8 := [180, 0, 109, 167, 0, 16, 27, 5, 160, 0, 10, 42, 180, 0, 212, 167, 0, 4, 2, 172]
abbrev dktX8_count_1 : List UInt8 := dkwX8_count_1 ++ []
def dkwX8_count_0 : List UInt8 := [42, 3, 181, 0, 106, 27, 154, 0, 10, 42, 180, 0, 218, 167, 0, 28, 27, 4, 160, 0, 10, 42]
abbrev dktX8_count_0 : List UInt8 := dkwX8_count_0 ++ dktX8_count_1
theorem dksX8_count_0 : cX8_count.data.toList.drop 0 = dktX8_count_0 := by decide +kernel
theorem dksX8_count_1 : cX8_count.data.toList.drop 22 = dktX8_count_1 := dk_seg dksX8_count_0 22 rfl rfl
theorem dX8_count_0 : decode cX8_count 0 = .ok (.aload_n 0, 1) := dk_42 (dk_at dksX8_count_0 0 rfl rfl)
theorem dX8_count_1 : decode cX8_count 1 = .ok (.iconst 0, 1) := dk_3 (dk_at dksX8_count_0 1 rfl rfl)
theorem dX8_count_2 : decode cX8_count 2 = .ok (.putfield 106, 3) := dk_181 0 106 (dk_at dksX8_count_0 2 rfl rfl)
theorem dX8_count_5 : decode cX8_count 5 = .ok (.iload_n 1, 1) := dk_27 (dk_at dksX8_count_0 5 rfl rfl)
theorem dX8_count_6 : decode cX8_count 6 = .ok (.ifCond .ne 10, 3) := dk_154 0 10 (dk_at dksX8_count_0 6 rfl rfl)
theorem dX8_count_9 : decode cX8_count 9 = .ok (.aload_n 0, 1) := dk_42 (dk_at dksX8_count_0 9 rfl rfl)
theorem dX8_count_10 : decode cX8_count 10 = .ok (.getfield 218, 3) := dk_180 0 218 (dk_at dksX8_count_0 10 rfl rfl)
theorem dX8_count_13 : decode cX8_count 13 = .ok (.goto 28, 3) := dk_167 0 28 (dk_at dksX8_count_0 13 rfl rfl)
theorem dX8_count_16 : decode cX8_count 16 = .ok (.iload_n 1, 1) := dk_27 (dk_at dksX8_count_0 16 rfl rfl)
theorem dX8_count_17 : decode cX8_count 17 = .ok (.iconst 1, 1) := dk_4 (dk_at dksX8_count_0 17 rfl rfl)
theorem dX8_count_18 : decode cX8_count 18 = .ok (.if_icmp .ne 10, 3) := dk_160 0 10 (dk_at dksX8_count_0 18 rfl rfl)
theorem dX8_count_21 : decode cX8_count 21 = .ok (.aload_n 0, 1) := dk_42 (dk_at dksX8_count_0 21 rfl rfl)
theorem dX8_count_22 : decode cX8_count 22 = .ok (.getfield 109, 3) := dk_180 0 109 (dk_at dksX8_count_1 0 rfl rfl)
theorem dX8_count_25 : decode cX8_count 25 = .ok (.goto 16, 3) := dk_167 0 16 (dk_at dksX8_count_1 3 rfl rfl)
theorem dX8_count_28 : decode cX8_count 28 = .ok (.iload_n 1, 1) := dk_27 (dk_at dksX8_count_1 6 rfl rfl)
theorem dX8_count_29 : decode cX8_count 29 = .ok (.iconst 2, 1) := dk_5 (dk_at dksX8_count_1 7 rfl rfl)
theorem dX8_count_30 : decode cX8_count 30 = .ok (.if_icmp .ne 10, 3) := dk_160 0 10 (dk_at dksX8_count_1 8 rfl rfl)
theorem dX8_count_33 : decode cX8_count 33 = .ok (.aload_n 0, 1) := dk_42 (dk_at dksX8_count_1 11 rfl rfl)
theorem dX8_count_34 : decode cX8_count 34 = .ok (.getfield 212, 3) := dk_180 0 212 (dk_at dksX8_count_1 12 rfl rfl)
theorem dX8_count_37 : decode cX8_count 37 = .ok (.goto 4, 3) := dk_167 0 4 (dk_at dksX8_count_1 15 rfl rfl)
theorem dX8_count_40 : decode cX8_count 40 = .ok (.iconst (-1), 1) := dk_2 (dk_at dksX8_count_1 18 rfl rfl)
theorem dX8_count_41 : decode cX8_count 41 = .ok (.ireturn, 1) := dk_172 (dk_at dksX8_count_1 19 rfl rfl)
theorem q125 : (Jvm.Cond.initialized "TunedHousesModel") ∈ lw_all := lw_g (lw_at lw_m1 27 rfl) rfl
theorem q1185 : (Jvm.Cond.selects "TunedHousesModel" ({ cls := "java/lang/Object", name := "getClass", desc := "()Ljava/lang/Class;" } : Jvm.MethodName) ({ cls := "java/lang/Object", name := "getClass", desc := "()Ljava/lang/Class;" } : Jvm.MethodName)) ∈ lw_all := lw_g (lw_at lw_m5 127 rfl) rfl
theorem q1936 : (Jvm.Cond.instantiable "TunedHousesModel" (50 : Nat)) ∈ lw_all := lw_g (lw_at lw_m8 158 rfl) rfl
theorem q1938 : (Jvm.Cond.instanceMethod ({ cls := "TunedHousesModel", name := "<init>", desc := "()V" } : Jvm.MethodName)) ∈ lw_all := lw_g (lw_at lw_m8 160 rfl) rfl
theorem q1939 : (Jvm.Cond.code ({ cls := "TunedHousesModel", name := "<init>", desc := "()V" } : Jvm.MethodName) prog_30_method_1_code (1 : Nat) (Option.none : Option Jvm.ClassFile.FieldType)) ∈ lw_all := lw_g (lw_at lw_m8 161 rfl) rfl
theorem q1940 : (Jvm.Cond.methodLink "TunedHousesModel" (1 : Nat) ({ cls := "java/lang/Object", name := "<init>", desc := "()V" } : Jvm.MethodName)) ∈ lw_all := lw_g (lw_at lw_m8 162 rfl) rfl
theorem q1941 : (Jvm.Cond.classLink "TunedHousesModel" (38 : Nat) "[[I") ∈ lw_all := lw_g (lw_at lw_m8 163 rfl) rfl
theorem q1943 : (Jvm.Cond.methodLink "TunedHousesModel" (100 : Nat) ({ cls := "TunedHousesModel", name := "tellsNothing", desc := "()V" } : Jvm.MethodName)) ∈ lw_all := lw_g (lw_at lw_m8 165 rfl) rfl
theorem q1944 : (Jvm.Cond.privateMethod ({ cls := "TunedHousesModel", name := "tellsNothing", desc := "()V" } : Jvm.MethodName)) ∈ lw_tbl := lw_at lw_m8 166 rfl
theorem q1945 : (Jvm.Cond.instanceMethod ({ cls := "TunedHousesModel", name := "tellsNothing", desc := "()V" } : Jvm.MethodName)) ∈ lw_all := lw_g (lw_at lw_m8 167 rfl) rfl
theorem q1946 : (Jvm.Cond.code ({ cls := "TunedHousesModel", name := "tellsNothing", desc := "()V" } : Jvm.MethodName) prog_30_method_2_code (2 : Nat) (Option.none : Option Jvm.ClassFile.FieldType)) ∈ lw_all := lw_g (lw_at lw_m8 168 rfl) rfl
theorem q1947 : (Jvm.Cond.methodLink "TunedHousesModel" (103 : Nat) ({ cls := "TunedHousesModel", name := "beginsAnew", desc := "()V" } : Jvm.MethodName)) ∈ lw_all := lw_g (lw_at lw_m8 169 rfl) rfl
theorem q1948 : (Jvm.Cond.privateMethod ({ cls := "TunedHousesModel", name := "beginsAnew", desc := "()V" } : Jvm.MethodName)) ∈ lw_tbl := lw_at lw_m8 170 rfl
theorem q1949 : (Jvm.Cond.instanceMethod ({ cls := "TunedHousesModel", name := "beginsAnew", desc := "()V" } : Jvm.MethodName)) ∈ lw_all := lw_g (lw_at lw_m8 171 rfl) rfl
theorem q1950 : (Jvm.Cond.code ({ cls := "TunedHousesModel", name := "beginsAnew", desc := "()V" } : Jvm.MethodName) prog_30_method_33_code (2 : Nat) (Option.none : Option Jvm.ClassFile.FieldType)) ∈ lw_all := lw_g (lw_at lw_m8 172 rfl) rfl
theorem q1951 : (Jvm.Cond.methodLink "TunedHousesModel" (202 : Nat) ({ cls := "TunedHousesModel", name := "lays", desc := "([[I[[II)V" } : Jvm.MethodName)) ∈ lw_all := lw_g (lw_at lw_m8 173 rfl) rfl
theorem q1952 : (Jvm.Cond.static ({ cls := "TunedHousesModel", name := "lays", desc := "([[I[[II)V" } : Jvm.MethodName)) ∈ lw_all := lw_g (lw_at lw_m8 174 rfl) rfl
theorem q1953 : (Jvm.Cond.code ({ cls := "TunedHousesModel", name := "lays", desc := "([[I[[II)V" } : Jvm.MethodName) prog_30_method_31_code (5 : Nat) (Option.none : Option Jvm.ClassFile.FieldType)) ∈ lw_all := lw_g (lw_at lw_m8 175 rfl) rfl
theorem q1954 : (Jvm.Cond.fieldLink "TunedHousesModel" (106 : Nat) "TunedHousesModel" "thrown" "I") ∈ lw_all := lw_g (lw_at lw_m8 176 rfl) rfl
theorem q1955 : (Jvm.Cond.fieldLink "TunedHousesModel" (109 : Nat) "TunedHousesModel" "tape" "I") ∈ lw_all := lw_g (lw_at lw_m8 177 rfl) rfl
theorem q1956 : (Jvm.Cond.fieldLink "TunedHousesModel" (112 : Nat) "TunedHousesModel" "size" "I") ∈ lw_all := lw_g (lw_at lw_m8 178 rfl) rfl
theorem q1957 : (Jvm.Cond.fieldLink "TunedHousesModel" (9 : Nat) "TunedHousesModel" "place" "I") ∈ lw_all := lw_g (lw_at lw_m8 179 rfl) rfl
theorem q1958 : (Jvm.Cond.fieldLink "TunedHousesModel" (115 : Nat) "TunedHousesModel" "at" "I") ∈ lw_all := lw_g (lw_at lw_m8 180 rfl) rfl
theorem q1959 : (Jvm.Cond.fieldLink "TunedHousesModel" (122 : Nat) "TunedHousesModel" "fault" "I") ∈ lw_all := lw_g (lw_at lw_m8 181 rfl) rfl
theorem q1960 : (Jvm.Cond.fieldLink "TunedHousesModel" (125 : Nat) "TunedHousesModel" "faultAt" "I") ∈ lw_all := lw_g (lw_at lw_m8 182 rfl) rfl
theorem q1961 : (Jvm.Cond.fieldLink "TunedHousesModel" (162 : Nat) "TunedHousesModel" "clauses" "I") ∈ lw_all := lw_g (lw_at lw_m8 183 rfl) rfl
theorem q1962 : (Jvm.Cond.fieldLink "TunedHousesModel" (165 : Nat) "TunedHousesModel" "open" "I") ∈ lw_all := lw_g (lw_at lw_m8 184 rfl) rfl
theorem q1963 : (Jvm.Cond.fieldLink "TunedHousesModel" (13 : Nat) "TunedHousesModel" "fed" "[I") ∈ lw_all := lw_g (lw_at lw_m8 185 rfl) rfl
theorem q1964 : (Jvm.Cond.fieldLink "TunedHousesModel" (17 : Nat) "TunedHousesModel" "refused" "[I") ∈ lw_all := lw_g (lw_at lw_m8 186 rfl) rfl
theorem q1965 : (Jvm.Cond.fieldLink "TunedHousesModel" (20 : Nat) "TunedHousesModel" "readTold" "[I") ∈ lw_all := lw_g (lw_at lw_m8 187 rfl) rfl
theorem q1966 : (Jvm.Cond.fieldLink "TunedHousesModel" (23 : Nat) "TunedHousesModel" "told" "[I") ∈ lw_all := lw_g (lw_at lw_m8 188 rfl) rfl
theorem q1967 : (Jvm.Cond.fieldLink "TunedHousesModel" (26 : Nat) "TunedHousesModel" "readThing" "[I") ∈ lw_all := lw_g (lw_at lw_m8 189 rfl) rfl
theorem q1968 : (Jvm.Cond.fieldLink "TunedHousesModel" (29 : Nat) "TunedHousesModel" "thing" "[I") ∈ lw_all := lw_g (lw_at lw_m8 190 rfl) rfl
theorem q1969 : (Jvm.Cond.fieldLink "TunedHousesModel" (32 : Nat) "TunedHousesModel" "readWish" "[I") ∈ lw_all := lw_g (lw_at lw_m8 191 rfl) rfl
theorem q1970 : (Jvm.Cond.fieldLink "TunedHousesModel" (35 : Nat) "TunedHousesModel" "wish" "[I") ∈ lw_all := lw_g (lw_at lw_m8 192 rfl) rfl
theorem q1971 : (Jvm.Cond.fieldLink "TunedHousesModel" (40 : Nat) "TunedHousesModel" "readWall" "[[I") ∈ lw_all := lw_g (lw_at lw_m8 193 rfl) rfl
theorem q1972 : (Jvm.Cond.fieldLink "TunedHousesModel" (43 : Nat) "TunedHousesModel" "wall" "[[I") ∈ lw_all := lw_g (lw_at lw_m8 194 rfl) rfl
theorem q1973 : (Jvm.Cond.fieldLink "TunedHousesModel" (46 : Nat) "TunedHousesModel" "readPiano" "[[I") ∈ lw_all := lw_g (lw_at lw_m8 195 rfl) rfl
theorem q1974 : (Jvm.Cond.fieldLink "TunedHousesModel" (49 : Nat) "TunedHousesModel" "piano" "[[I") ∈ lw_all := lw_g (lw_at lw_m8 196 rfl) rfl
theorem q1975 : (Jvm.Cond.fieldLink "TunedHousesModel" (206 : Nat) "TunedHousesModel" "lawMany" "I") ∈ lw_all := lw_g (lw_at lw_m8 197 rfl) rfl
theorem q1976 : (Jvm.Cond.fieldLink "TunedHousesModel" (221 : Nat) "TunedHousesModel" "readLawMany" "I") ∈ lw_all := lw_g (lw_at lw_m8 198 rfl) rfl
theorem q1977 : (Jvm.Cond.fieldLink "TunedHousesModel" (52 : Nat) "TunedHousesModel" "law" "[[I") ∈ lw_all := lw_g (lw_at lw_m8 199 rfl) rfl
theorem q1978 : (Jvm.Cond.fieldLink "TunedHousesModel" (55 : Nat) "TunedHousesModel" "readLaw" "[[I") ∈ lw_all := lw_g (lw_at lw_m8 200 rfl) rfl
theorem q1979 : (Jvm.Cond.fieldLink "TunedHousesModel" (58 : Nat) "TunedHousesModel" "line" "[[I") ∈ lw_all := lw_g (lw_at lw_m8 201 rfl) rfl
theorem q1980 : (Jvm.Cond.fieldLink "TunedHousesModel" (61 : Nat) "TunedHousesModel" "readLine" "[[I") ∈ lw_all := lw_g (lw_at lw_m8 202 rfl) rfl
theorem q1981 : (Jvm.Cond.fieldLink "TunedHousesModel" (64 : Nat) "TunedHousesModel" "stack" "[I") ∈ lw_all := lw_g (lw_at lw_m8 203 rfl) rfl
theorem q1982 : (Jvm.Cond.fieldLink "TunedHousesModel" (67 : Nat) "TunedHousesModel" "known" "[I") ∈ lw_all := lw_g (lw_at lw_m8 204 rfl) rfl
theorem q1983 : (Jvm.Cond.fieldLink "TunedHousesModel" (70 : Nat) "TunedHousesModel" "step" "[[I") ∈ lw_all := lw_g (lw_at lw_m8 205 rfl) rfl
theorem q1984 : (Jvm.Cond.fieldLink "TunedHousesModel" (262 : Nat) "TunedHousesModel" "steps" "I") ∈ lw_all := lw_g (lw_at lw_m8 206 rfl) rfl
theorem q1985 : (Jvm.Cond.fieldLink "TunedHousesModel" (73 : Nat) "TunedHousesModel" "now" "[I") ∈ lw_all := lw_g (lw_at lw_m8 207 rfl) rfl
theorem q1986 : (Jvm.Cond.fieldLink "TunedHousesModel" (76 : Nat) "TunedHousesModel" "trial" "[I") ∈ lw_all := lw_g (lw_at lw_m8 208 rfl) rfl
theorem q1987 : (Jvm.Cond.fieldLink "TunedHousesModel" (79 : Nat) "TunedHousesModel" "brought" "[I") ∈ lw_all := lw_g (lw_at lw_m8 209 rfl) rfl
theorem q1988 : (Jvm.Cond.fieldLink "TunedHousesModel" (82 : Nat) "TunedHousesModel" "before" "[[I") ∈ lw_all := lw_g (lw_at lw_m8 210 rfl) rfl
theorem q1989 : (Jvm.Cond.fieldLink "TunedHousesModel" (85 : Nat) "TunedHousesModel" "kept" "[[I") ∈ lw_all := lw_g (lw_at lw_m8 211 rfl) rfl
theorem q1990 : (Jvm.Cond.fieldLink "TunedHousesModel" (209 : Nat) "TunedHousesModel" "lines" "I") ∈ lw_all := lw_g (lw_at lw_m8 212 rfl) rfl
theorem q1991 : (Jvm.Cond.fieldLink "TunedHousesModel" (212 : Nat) "TunedHousesModel" "works" "I") ∈ lw_all := lw_g (lw_at lw_m8 213 rfl) rfl
theorem q1992 : (Jvm.Cond.fieldLink "TunedHousesModel" (215 : Nat) "TunedHousesModel" "refusedSteps" "I") ∈ lw_all := lw_g (lw_at lw_m8 214 rfl) rfl
theorem q1993 : (Jvm.Cond.fieldLink "TunedHousesModel" (218 : Nat) "TunedHousesModel" "images" "I") ∈ lw_all := lw_g (lw_at lw_m8 215 rfl) rfl
theorem q1994 : (Jvm.Cond.fieldLink "TunedHousesModel" (402 : Nat) "TunedHousesModel" "spot" "I") ∈ lw_all := lw_g (lw_at lw_m8 216 rfl) rfl
theorem q1995 : (Jvm.Cond.fieldLink "TunedHousesModel" (306 : Nat) "TunedHousesModel" "begun" "I") ∈ lw_all := lw_g (lw_at lw_m8 217 rfl) rfl
theorem q1996 : (Jvm.Cond.fieldLink "TunedHousesModel" (316 : Nat) "TunedHousesModel" "doneSteps" "I") ∈ lw_all := lw_g (lw_at lw_m8 218 rfl) rfl
theorem q1997 : (Jvm.Cond.fieldLink "TunedHousesModel" (88 : Nat) "TunedHousesModel" "bestAt" "[I") ∈ lw_all := lw_g (lw_at lw_m8 219 rfl) rfl
theorem q1998 : (Jvm.Cond.fieldLink "TunedHousesModel" (348 : Nat) "TunedHousesModel" "mostWishes" "I") ∈ lw_all := lw_g (lw_at lw_m8 220 rfl) rfl
theorem q1999 : (Jvm.Cond.fieldLink "TunedHousesModel" (91 : Nat) "TunedHousesModel" "heard" "[I") ∈ lw_all := lw_g (lw_at lw_m8 221 rfl) rfl
theorem q2000 : (Jvm.Cond.fieldLink "TunedHousesModel" (94 : Nat) "TunedHousesModel" "seen" "[[I") ∈ lw_all := lw_g (lw_at lw_m8 222 rfl) rfl
theorem q2001 : (Jvm.Cond.fieldLink "TunedHousesModel" (97 : Nat) "TunedHousesModel" "far" "[I") ∈ lw_all := lw_g (lw_at lw_m8 223 rfl) rfl
theorem q2002 : (Jvm.Cond.fieldLink "TunedHousesModel" (386 : Nat) "TunedHousesModel" "lots" "I") ∈ lw_all := lw_g (lw_at lw_m8 224 rfl) rfl
theorem q2003 : (Jvm.Cond.fieldLink "TunedHousesModel" (390 : Nat) "TunedHousesModel" "putsIn" "I") ∈ lw_all := lw_g (lw_at lw_m8 225 rfl) rfl
theorem q2004 : (Jvm.Cond.lays "TunedHousesModel" "TunedHousesModel" "thrown" "I") ∈ lw_all := lw_g (lw_at lw_m8 226 rfl) rfl
theorem q2005 : (Jvm.Cond.soleField "TunedHousesModel" "thrown") ∈ lw_all := lw_g (lw_at lw_m8 227 rfl) rfl
theorem q2006 : (Jvm.Cond.lays "TunedHousesModel" "TunedHousesModel" "tape" "I") ∈ lw_all := lw_g (lw_at lw_m8 228 rfl) rfl
theorem q2007 : (Jvm.Cond.soleField "TunedHousesModel" "tape") ∈ lw_all := lw_g (lw_at lw_m8 229 rfl) rfl
theorem q2008 : (Jvm.Cond.lays "TunedHousesModel" "TunedHousesModel" "size" "I") ∈ lw_all := lw_g (lw_at lw_m8 230 rfl) rfl
theorem q2009 : (Jvm.Cond.soleField "TunedHousesModel" "size") ∈ lw_all := lw_g (lw_at lw_m8 231 rfl) rfl
theorem q2010 : (Jvm.Cond.lays "TunedHousesModel" "TunedHousesModel" "place" "I") ∈ lw_all := lw_g (lw_at lw_m8 232 rfl) rfl
theorem q2011 : (Jvm.Cond.soleField "TunedHousesModel" "place") ∈ lw_all := lw_g (lw_at lw_m8 233 rfl) rfl
theorem q2012 : (Jvm.Cond.lays "TunedHousesModel" "TunedHousesModel" "at" "I") ∈ lw_all := lw_g (lw_at lw_m8 234 rfl) rfl
theorem q2013 : (Jvm.Cond.soleField "TunedHousesModel" "at") ∈ lw_all := lw_g (lw_at lw_m8 235 rfl) rfl
theorem q2014 : (Jvm.Cond.lays "TunedHousesModel" "TunedHousesModel" "fault" "I") ∈ lw_all := lw_g (lw_at lw_m8 236 rfl) rfl
theorem q2015 : (Jvm.Cond.soleField "TunedHousesModel" "fault") ∈ lw_all := lw_g (lw_at lw_m8 237 rfl) rfl
theorem q2016 : (Jvm.Cond.lays "TunedHousesModel" "TunedHousesModel" "faultAt" "I") ∈ lw_all := lw_g (lw_at lw_m8 238 rfl) rfl
theorem q2017 : (Jvm.Cond.soleField "TunedHousesModel" "faultAt") ∈ lw_all := lw_g (lw_at lw_m8 239 rfl) rfl
theorem q2018 : (Jvm.Cond.lays "TunedHousesModel" "TunedHousesModel" "clauses" "I") ∈ lw_all := lw_g (lw_at lw_m9 0 rfl) rfl
theorem q2019 : (Jvm.Cond.soleField "TunedHousesModel" "clauses") ∈ lw_all := lw_g (lw_at lw_m9 1 rfl) rfl
theorem q2020 : (Jvm.Cond.lays "TunedHousesModel" "TunedHousesModel" "open" "I") ∈ lw_all := lw_g (lw_at lw_m9 2 rfl) rfl
theorem q2021 : (Jvm.Cond.soleField "TunedHousesModel" "open") ∈ lw_all := lw_g (lw_at lw_m9 3 rfl) rfl
theorem q2022 : (Jvm.Cond.laysFinal "TunedHousesModel" "TunedHousesModel" "fed" "[I") ∈ lw_all := lw_g (lw_at lw_m9 4 rfl) rfl
theorem q2023 : (Jvm.Cond.soleField "TunedHousesModel" "fed") ∈ lw_all := lw_g (lw_at lw_m9 5 rfl) rfl
theorem q2024 : (Jvm.Cond.laysFinal "TunedHousesModel" "TunedHousesModel" "refused" "[I") ∈ lw_all := lw_g (lw_at lw_m9 6 rfl) rfl
theorem q2025 : (Jvm.Cond.soleField "TunedHousesModel" "refused") ∈ lw_all := lw_g (lw_at lw_m9 7 rfl) rfl
theorem q2026 : (Jvm.Cond.laysFinal "TunedHousesModel" "TunedHousesModel" "readTold" "[I") ∈ lw_all := lw_g (lw_at lw_m9 8 rfl) rfl
theorem q2027 : (Jvm.Cond.soleField "TunedHousesModel" "readTold") ∈ lw_all := lw_g (lw_at lw_m9 9 rfl) rfl
theorem q2028 : (Jvm.Cond.laysFinal "TunedHousesModel" "TunedHousesModel" "told" "[I") ∈ lw_all := lw_g (lw_at lw_m9 10 rfl) rfl
theorem q2029 : (Jvm.Cond.soleField "TunedHousesModel" "told") ∈ lw_all := lw_g (lw_at lw_m9 11 rfl) rfl
theorem q2030 : (Jvm.Cond.laysFinal "TunedHousesModel" "TunedHousesModel" "readThing" "[I") ∈ lw_all := lw_g (lw_at lw_m9 12 rfl) rfl
theorem q2031 : (Jvm.Cond.soleField "TunedHousesModel" "readThing") ∈ lw_all := lw_g (lw_at lw_m9 13 rfl) rfl
theorem q2032 : (Jvm.Cond.laysFinal "TunedHousesModel" "TunedHousesModel" "thing" "[I") ∈ lw_all := lw_g (lw_at lw_m9 14 rfl) rfl
theorem q2033 : (Jvm.Cond.soleField "TunedHousesModel" "thing") ∈ lw_all := lw_g (lw_at lw_m9 15 rfl) rfl
theorem q2034 : (Jvm.Cond.laysFinal "TunedHousesModel" "TunedHousesModel" "readWish" "[I") ∈ lw_all := lw_g (lw_at lw_m9 16 rfl) rfl
theorem q2035 : (Jvm.Cond.soleField "TunedHousesModel" "readWish") ∈ lw_all := lw_g (lw_at lw_m9 17 rfl) rfl
theorem q2036 : (Jvm.Cond.laysFinal "TunedHousesModel" "TunedHousesModel" "wish" "[I") ∈ lw_all := lw_g (lw_at lw_m9 18 rfl) rfl
theorem q2037 : (Jvm.Cond.soleField "TunedHousesModel" "wish") ∈ lw_all := lw_g (lw_at lw_m9 19 rfl) rfl
theorem q2038 : (Jvm.Cond.laysFinal "TunedHousesModel" "TunedHousesModel" "readWall" "[[I") ∈ lw_all := lw_g (lw_at lw_m9 20 rfl) rfl
theorem q2039 : (Jvm.Cond.soleField "TunedHousesModel" "readWall") ∈ lw_all := lw_g (lw_at lw_m9 21 rfl) rfl
theorem q2040 : (Jvm.Cond.laysFinal "TunedHousesModel" "TunedHousesModel" "wall" "[[I") ∈ lw_all := lw_g (lw_at lw_m9 22 rfl) rfl
theorem q2041 : (Jvm.Cond.soleField "TunedHousesModel" "wall") ∈ lw_all := lw_g (lw_at lw_m9 23 rfl) rfl
theorem q2042 : (Jvm.Cond.laysFinal "TunedHousesModel" "TunedHousesModel" "readPiano" "[[I") ∈ lw_all := lw_g (lw_at lw_m9 24 rfl) rfl
theorem q2043 : (Jvm.Cond.soleField "TunedHousesModel" "readPiano") ∈ lw_all := lw_g (lw_at lw_m9 25 rfl) rfl
theorem q2044 : (Jvm.Cond.laysFinal "TunedHousesModel" "TunedHousesModel" "piano" "[[I") ∈ lw_all := lw_g (lw_at lw_m9 26 rfl) rfl
theorem q2045 : (Jvm.Cond.soleField "TunedHousesModel" "piano") ∈ lw_all := lw_g (lw_at lw_m9 27 rfl) rfl
theorem q2046 : (Jvm.Cond.lays "TunedHousesModel" "TunedHousesModel" "lawMany" "I") ∈ lw_all := lw_g (lw_at lw_m9 28 rfl) rfl
theorem q2047 : (Jvm.Cond.soleField "TunedHousesModel" "lawMany") ∈ lw_all := lw_g (lw_at lw_m9 29 rfl) rfl
theorem q2048 : (Jvm.Cond.lays "TunedHousesModel" "TunedHousesModel" "readLawMany" "I") ∈ lw_all := lw_g (lw_at lw_m9 30 rfl) rfl
theorem q2049 : (Jvm.Cond.soleField "TunedHousesModel" "readLawMany") ∈ lw_all := lw_g (lw_at lw_m9 31 rfl) rfl
theorem q2050 : (Jvm.Cond.laysFinal "TunedHousesModel" "TunedHousesModel" "law" "[[I") ∈ lw_all := lw_g (lw_at lw_m9 32 rfl) rfl
theorem q2051 : (Jvm.Cond.soleField "TunedHousesModel" "law") ∈ lw_all := lw_g (lw_at lw_m9 33 rfl) rfl
theorem q2052 : (Jvm.Cond.laysFinal "TunedHousesModel" "TunedHousesModel" "readLaw" "[[I") ∈ lw_all := lw_g (lw_at lw_m9 34 rfl) rfl
theorem q2053 : (Jvm.Cond.soleField "TunedHousesModel" "readLaw") ∈ lw_all := lw_g (lw_at lw_m9 35 rfl) rfl
theorem q2054 : (Jvm.Cond.laysFinal "TunedHousesModel" "TunedHousesModel" "line" "[[I") ∈ lw_all := lw_g (lw_at lw_m9 36 rfl) rfl
theorem q2055 : (Jvm.Cond.soleField "TunedHousesModel" "line") ∈ lw_all := lw_g (lw_at lw_m9 37 rfl) rfl
theorem q2056 : (Jvm.Cond.laysFinal "TunedHousesModel" "TunedHousesModel" "readLine" "[[I") ∈ lw_all := lw_g (lw_at lw_m9 38 rfl) rfl
theorem q2057 : (Jvm.Cond.soleField "TunedHousesModel" "readLine") ∈ lw_all := lw_g (lw_at lw_m9 39 rfl) rfl
theorem q2058 : (Jvm.Cond.laysFinal "TunedHousesModel" "TunedHousesModel" "stack" "[I") ∈ lw_all := lw_g (lw_at lw_m9 40 rfl) rfl
theorem q2059 : (Jvm.Cond.soleField "TunedHousesModel" "stack") ∈ lw_all := lw_g (lw_at lw_m9 41 rfl) rfl
theorem q2060 : (Jvm.Cond.laysFinal "TunedHousesModel" "TunedHousesModel" "known" "[I") ∈ lw_all := lw_g (lw_at lw_m9 42 rfl) rfl
theorem q2061 : (Jvm.Cond.soleField "TunedHousesModel" "known") ∈ lw_all := lw_g (lw_at lw_m9 43 rfl) rfl
theorem q2062 : (Jvm.Cond.laysFinal "TunedHousesModel" "TunedHousesModel" "step" "[[I") ∈ lw_all := lw_g (lw_at lw_m9 44 rfl) rfl
theorem q2063 : (Jvm.Cond.soleField "TunedHousesModel" "step") ∈ lw_all := lw_g (lw_at lw_m9 45 rfl) rfl
theorem q2064 : (Jvm.Cond.lays "TunedHousesModel" "TunedHousesModel" "steps" "I") ∈ lw_all := lw_g (lw_at lw_m9 46 rfl) rfl
theorem q2065 : (Jvm.Cond.soleField "TunedHousesModel" "steps") ∈ lw_all := lw_g (lw_at lw_m9 47 rfl) rfl
theorem q2066 : (Jvm.Cond.laysFinal "TunedHousesModel" "TunedHousesModel" "now" "[I") ∈ lw_all := lw_g (lw_at lw_m9 48 rfl) rfl
theorem q2067 : (Jvm.Cond.soleField "TunedHousesModel" "now") ∈ lw_all := lw_g (lw_at lw_m9 49 rfl) rfl
theorem q2068 : (Jvm.Cond.laysFinal "TunedHousesModel" "TunedHousesModel" "trial" "[I") ∈ lw_all := lw_g (lw_at lw_m9 50 rfl) rfl
theorem q2069 : (Jvm.Cond.soleField "TunedHousesModel" "trial") ∈ lw_all := lw_g (lw_at lw_m9 51 rfl) rfl
theorem q2070 : (Jvm.Cond.laysFinal "TunedHousesModel" "TunedHousesModel" "brought" "[I") ∈ lw_all := lw_g (lw_at lw_m9 52 rfl) rfl
theorem q2071 : (Jvm.Cond.soleField "TunedHousesModel" "brought") ∈ lw_all := lw_g (lw_at lw_m9 53 rfl) rfl
theorem q2072 : (Jvm.Cond.laysFinal "TunedHousesModel" "TunedHousesModel" "before" "[[I") ∈ lw_all := lw_g (lw_at lw_m9 54 rfl) rfl
theorem q2073 : (Jvm.Cond.soleField "TunedHousesModel" "before") ∈ lw_all := lw_g (lw_at lw_m9 55 rfl) rfl
theorem q2074 : (Jvm.Cond.laysFinal "TunedHousesModel" "TunedHousesModel" "kept" "[[I") ∈ lw_all := lw_g (lw_at lw_m9 56 rfl) rfl
theorem q2075 : (Jvm.Cond.soleField "TunedHousesModel" "kept") ∈ lw_all := lw_g (lw_at lw_m9 57 rfl) rfl
theorem q2076 : (Jvm.Cond.lays "TunedHousesModel" "TunedHousesModel" "lines" "I") ∈ lw_all := lw_g (lw_at lw_m9 58 rfl) rfl
theorem q2077 : (Jvm.Cond.soleField "TunedHousesModel" "lines") ∈ lw_all := lw_g (lw_at lw_m9 59 rfl) rfl
theorem q2078 : (Jvm.Cond.lays "TunedHousesModel" "TunedHousesModel" "works" "I") ∈ lw_all := lw_g (lw_at lw_m9 60 rfl) rfl
theorem q2079 : (Jvm.Cond.soleField "TunedHousesModel" "works") ∈ lw_all := lw_g (lw_at lw_m9 61 rfl) rfl
theorem q2080 : (Jvm.Cond.lays "TunedHousesModel" "TunedHousesModel" "refusedSteps" "I") ∈ lw_all := lw_g (lw_at lw_m9 62 rfl) rfl
theorem q2081 : (Jvm.Cond.soleField "TunedHousesModel" "refusedSteps") ∈ lw_all := lw_g (lw_at lw_m9 63 rfl) rfl
theorem q2082 : (Jvm.Cond.lays "TunedHousesModel" "TunedHousesModel" "images" "I") ∈ lw_all := lw_g (lw_at lw_m9 64 rfl) rfl
theorem q2083 : (Jvm.Cond.soleField "TunedHousesModel" "images") ∈ lw_all := lw_g (lw_at lw_m9 65 rfl) rfl
theorem q2084 : (Jvm.Cond.lays "TunedHousesModel" "TunedHousesModel" "spot" "I") ∈ lw_all := lw_g (lw_at lw_m9 66 rfl) rfl
theorem q2085 : (Jvm.Cond.soleField "TunedHousesModel" "spot") ∈ lw_all := lw_g (lw_at lw_m9 67 rfl) rfl
theorem q2086 : (Jvm.Cond.lays "TunedHousesModel" "TunedHousesModel" "begun" "I") ∈ lw_all := lw_g (lw_at lw_m9 68 rfl) rfl
theorem q2087 : (Jvm.Cond.soleField "TunedHousesModel" "begun") ∈ lw_all := lw_g (lw_at lw_m9 69 rfl) rfl
theorem q2088 : (Jvm.Cond.lays "TunedHousesModel" "TunedHousesModel" "doneSteps" "I") ∈ lw_all := lw_g (lw_at lw_m9 70 rfl) rfl
theorem q2089 : (Jvm.Cond.soleField "TunedHousesModel" "doneSteps") ∈ lw_all := lw_g (lw_at lw_m9 71 rfl) rfl
theorem q2090 : (Jvm.Cond.laysFinal "TunedHousesModel" "TunedHousesModel" "bestAt" "[I") ∈ lw_all := lw_g (lw_at lw_m9 72 rfl) rfl
theorem q2091 : (Jvm.Cond.soleField "TunedHousesModel" "bestAt") ∈ lw_all := lw_g (lw_at lw_m9 73 rfl) rfl
theorem q2092 : (Jvm.Cond.lays "TunedHousesModel" "TunedHousesModel" "mostWishes" "I") ∈ lw_all := lw_g (lw_at lw_m9 74 rfl) rfl
theorem q2093 : (Jvm.Cond.soleField "TunedHousesModel" "mostWishes") ∈ lw_all := lw_g (lw_at lw_m9 75 rfl) rfl
theorem q2094 : (Jvm.Cond.laysFinal "TunedHousesModel" "TunedHousesModel" "heard" "[I") ∈ lw_all := lw_g (lw_at lw_m9 76 rfl) rfl
theorem q2095 : (Jvm.Cond.soleField "TunedHousesModel" "heard") ∈ lw_all := lw_g (lw_at lw_m9 77 rfl) rfl
theorem q2096 : (Jvm.Cond.laysFinal "TunedHousesModel" "TunedHousesModel" "seen" "[[I") ∈ lw_all := lw_g (lw_at lw_m9 78 rfl) rfl
theorem q2097 : (Jvm.Cond.soleField "TunedHousesModel" "seen") ∈ lw_all := lw_g (lw_at lw_m9 79 rfl) rfl
theorem q2098 : (Jvm.Cond.laysFinal "TunedHousesModel" "TunedHousesModel" "far" "[I") ∈ lw_all := lw_g (lw_at lw_m9 80 rfl) rfl
theorem q2099 : (Jvm.Cond.soleField "TunedHousesModel" "far") ∈ lw_all := lw_g (lw_at lw_m9 81 rfl) rfl
theorem q2100 : (Jvm.Cond.lays "TunedHousesModel" "TunedHousesModel" "lots" "I") ∈ lw_all := lw_g (lw_at lw_m9 82 rfl) rfl
theorem q2101 : (Jvm.Cond.soleField "TunedHousesModel" "lots") ∈ lw_all := lw_g (lw_at lw_m9 83 rfl) rfl
theorem q2102 : (Jvm.Cond.lays "TunedHousesModel" "TunedHousesModel" "putsIn" "I") ∈ lw_all := lw_g (lw_at lw_m9 84 rfl) rfl
theorem q2103 : (Jvm.Cond.soleField "TunedHousesModel" "putsIn") ∈ lw_all := lw_g (lw_at lw_m9 85 rfl) rfl
theorem q2104 : (Jvm.Cond.superclass "TunedHousesModel" "java/lang/Object") ∈ lw_all := lw_g (lw_at lw_m9 86 rfl) rfl
theorem q2106 : (Jvm.Cond.instanceMethod ({ cls := "TunedHousesModel", name := "thrown", desc := "()I" } : Jvm.MethodName)) ∈ lw_all := lw_g (lw_at lw_m9 88 rfl) rfl
theorem q2107 : (Jvm.Cond.selects "TunedHousesModel" ({ cls := "TunedHousesModel", name := "thrown", desc := "()I" } : Jvm.MethodName) ({ cls := "TunedHousesModel", name := "thrown", desc := "()I" } : Jvm.MethodName)) ∈ lw_all := lw_g (lw_at lw_m9 89 rfl) rfl
theorem q2108 : (Jvm.Cond.code ({ cls := "TunedHousesModel", name := "thrown", desc := "()I" } : Jvm.MethodName) prog_30_method_3_code (1 : Nat) (Option.some Jvm.ClassFile.FieldType.int)) ∈ lw_all := lw_g (lw_at lw_m9 90 rfl) rfl
theorem q2110 : (Jvm.Cond.instanceMethod ({ cls := "TunedHousesModel", name := "feed", desc := "(IIIII)I" } : Jvm.MethodName)) ∈ lw_all := lw_g (lw_at lw_m9 92 rfl) rfl
theorem q2111 : (Jvm.Cond.selects "TunedHousesModel" ({ cls := "TunedHousesModel", name := "feed", desc := "(IIIII)I" } : Jvm.MethodName) ({ cls := "TunedHousesModel", name := "feed", desc := "(IIIII)I" } : Jvm.MethodName)) ∈ lw_all := lw_g (lw_at lw_m9 93 rfl) rfl
theorem q2112 : (Jvm.Cond.code ({ cls := "TunedHousesModel", name := "feed", desc := "(IIIII)I" } : Jvm.MethodName) prog_30_method_9_code (8 : Nat) (Option.some Jvm.ClassFile.FieldType.int)) ∈ lw_all := lw_g (lw_at lw_m9 94 rfl) rfl
theorem q2114 : (Jvm.Cond.instanceMethod ({ cls := "TunedHousesModel", name := "terrace", desc := "(I)I" } : Jvm.MethodName)) ∈ lw_all := lw_g (lw_at lw_m9 96 rfl) rfl
theorem q2115 : (Jvm.Cond.selects "TunedHousesModel" ({ cls := "TunedHousesModel", name := "terrace", desc := "(I)I" } : Jvm.MethodName) ({ cls := "TunedHousesModel", name := "terrace", desc := "(I)I" } : Jvm.MethodName)) ∈ lw_all := lw_g (lw_at lw_m9 97 rfl) rfl
theorem q2116 : (Jvm.Cond.code ({ cls := "TunedHousesModel", name := "terrace", desc := "(I)I" } : Jvm.MethodName) prog_30_method_30_code (2 : Nat) (Option.some Jvm.ClassFile.FieldType.int)) ∈ lw_all := lw_g (lw_at lw_m9 98 rfl) rfl
theorem q2117 : (Jvm.Cond.methodLink "TunedHousesModel" (140 : Nat) ({ cls := "TunedHousesModel", name := "in", desc := "(III)Z" } : Jvm.MethodName)) ∈ lw_all := lw_g (lw_at lw_m9 99 rfl) rfl
theorem q2118 : (Jvm.Cond.static ({ cls := "TunedHousesModel", name := "in", desc := "(III)Z" } : Jvm.MethodName)) ∈ lw_all := lw_g (lw_at lw_m9 100 rfl) rfl
theorem q2119 : (Jvm.Cond.code ({ cls := "TunedHousesModel", name := "in", desc := "(III)Z" } : Jvm.MethodName) prog_30_method_5_code (3 : Nat) (Option.some Jvm.ClassFile.FieldType.boolean)) ∈ lw_all := lw_g (lw_at lw_m9 101 rfl) rfl
theorem q2120 : (Jvm.Cond.methodLink "TunedHousesModel" (189 : Nat) ({ cls := "TunedHousesModel", name := "bad", desc := "(ZII)Z" } : Jvm.MethodName)) ∈ lw_all := lw_g (lw_at lw_m9 102 rfl) rfl
theorem q2121 : (Jvm.Cond.privateMethod ({ cls := "TunedHousesModel", name := "bad", desc := "(ZII)Z" } : Jvm.MethodName)) ∈ lw_tbl := lw_at lw_m9 103 rfl
theorem q2122 : (Jvm.Cond.instanceMethod ({ cls := "TunedHousesModel", name := "bad", desc := "(ZII)Z" } : Jvm.MethodName)) ∈ lw_all := lw_g (lw_at lw_m9 104 rfl) rfl
theorem q2123 : (Jvm.Cond.code ({ cls := "TunedHousesModel", name := "bad", desc := "(ZII)Z" } : Jvm.MethodName) prog_30_method_4_code (4 : Nat) (Option.some Jvm.ClassFile.FieldType.boolean)) ∈ lw_all := lw_g (lw_at lw_m9 105 rfl) rfl
theorem q2124 : (Jvm.Cond.methodLink "TunedHousesModel" (193 : Nat) ({ cls := "TunedHousesModel", name := "starts", desc := "(I)V" } : Jvm.MethodName)) ∈ lw_all := lw_g (lw_at lw_m9 106 rfl) rfl
theorem q2125 : (Jvm.Cond.privateMethod ({ cls := "TunedHousesModel", name := "starts", desc := "(I)V" } : Jvm.MethodName)) ∈ lw_tbl := lw_at lw_m9 107 rfl
theorem q2126 : (Jvm.Cond.instanceMethod ({ cls := "TunedHousesModel", name := "starts", desc := "(I)V" } : Jvm.MethodName)) ∈ lw_all := lw_g (lw_at lw_m9 108 rfl) rfl
theorem q2127 : (Jvm.Cond.code ({ cls := "TunedHousesModel", name := "starts", desc := "(I)V" } : Jvm.MethodName) prog_30_method_23_code (2 : Nat) (Option.none : Option Jvm.ClassFile.FieldType)) ∈ lw_all := lw_g (lw_at lw_m9 109 rfl) rfl
theorem q2128 : (Jvm.Cond.methodLink "TunedHousesModel" (128 : Nat) ({ cls := "TunedHousesModel", name := "blanks", desc := "()V" } : Jvm.MethodName)) ∈ lw_all := lw_g (lw_at lw_m9 110 rfl) rfl
theorem q2129 : (Jvm.Cond.privateMethod ({ cls := "TunedHousesModel", name := "blanks", desc := "()V" } : Jvm.MethodName)) ∈ lw_tbl := lw_at lw_m9 111 rfl
theorem q2130 : (Jvm.Cond.instanceMethod ({ cls := "TunedHousesModel", name := "blanks", desc := "()V" } : Jvm.MethodName)) ∈ lw_all := lw_g (lw_at lw_m9 112 rfl) rfl
theorem q2131 : (Jvm.Cond.code ({ cls := "TunedHousesModel", name := "blanks", desc := "()V" } : Jvm.MethodName) prog_30_method_11_code (1 : Nat) (Option.none : Option Jvm.ClassFile.FieldType)) ∈ lw_all := lw_g (lw_at lw_m9 113 rfl) rfl
theorem q2132 : (Jvm.Cond.methodLink "TunedHousesModel" (118 : Nat) ({ cls := "TunedHousesModel", name := "byteAt", desc := "(I)I" } : Jvm.MethodName)) ∈ lw_all := lw_g (lw_at lw_m9 114 rfl) rfl
theorem q2133 : (Jvm.Cond.privateMethod ({ cls := "TunedHousesModel", name := "byteAt", desc := "(I)I" } : Jvm.MethodName)) ∈ lw_tbl := lw_at lw_m9 115 rfl
theorem q2134 : (Jvm.Cond.instanceMethod ({ cls := "TunedHousesModel", name := "byteAt", desc := "(I)I" } : Jvm.MethodName)) ∈ lw_all := lw_g (lw_at lw_m9 116 rfl) rfl
theorem q2135 : (Jvm.Cond.code ({ cls := "TunedHousesModel", name := "byteAt", desc := "(I)I" } : Jvm.MethodName) prog_30_method_10_code (2 : Nat) (Option.some Jvm.ClassFile.FieldType.int)) ∈ lw_all := lw_g (lw_at lw_m9 117 rfl) rfl
theorem q2136 : (Jvm.Cond.methodLink "TunedHousesModel" (196 : Nat) ({ cls := "TunedHousesModel", name := "clause", desc := "()V" } : Jvm.MethodName)) ∈ lw_all := lw_g (lw_at lw_m9 118 rfl) rfl
theorem q2137 : (Jvm.Cond.privateMethod ({ cls := "TunedHousesModel", name := "clause", desc := "()V" } : Jvm.MethodName)) ∈ lw_tbl := lw_at lw_m9 119 rfl
theorem q2138 : (Jvm.Cond.instanceMethod ({ cls := "TunedHousesModel", name := "clause", desc := "()V" } : Jvm.MethodName)) ∈ lw_all := lw_g (lw_at lw_m9 120 rfl) rfl
theorem q2139 : (Jvm.Cond.code ({ cls := "TunedHousesModel", name := "clause", desc := "()V" } : Jvm.MethodName) prog_30_method_29_code (6 : Nat) (Option.none : Option Jvm.ClassFile.FieldType)) ∈ lw_all := lw_g (lw_at lw_m9 121 rfl) rfl
theorem q2140 : (Jvm.Cond.methodLink "TunedHousesModel" (172 : Nat) ({ cls := "TunedHousesModel", name := "kindHere", desc := "()I" } : Jvm.MethodName)) ∈ lw_all := lw_g (lw_at lw_m9 122 rfl) rfl
theorem q2141 : (Jvm.Cond.privateMethod ({ cls := "TunedHousesModel", name := "kindHere", desc := "()I" } : Jvm.MethodName)) ∈ lw_tbl := lw_at lw_m9 123 rfl
theorem q2142 : (Jvm.Cond.instanceMethod ({ cls := "TunedHousesModel", name := "kindHere", desc := "()I" } : Jvm.MethodName)) ∈ lw_all := lw_g (lw_at lw_m9 124 rfl) rfl
theorem q2143 : (Jvm.Cond.code ({ cls := "TunedHousesModel", name := "kindHere", desc := "()I" } : Jvm.MethodName) prog_30_method_25_code (1 : Nat) (Option.some Jvm.ClassFile.FieldType.int)) ∈ lw_all := lw_g (lw_at lw_m9 125 rfl) rfl
theorem q2144 : (Jvm.Cond.methodLink "TunedHousesModel" (155 : Nat) ({ cls := "TunedHousesModel", name := "isWord", desc := "(IIIIII)Z" } : Jvm.MethodName)) ∈ lw_all := lw_g (lw_at lw_m9 126 rfl) rfl
theorem q2145 : (Jvm.Cond.privateMethod ({ cls := "TunedHousesModel", name := "isWord", desc := "(IIIIII)Z" } : Jvm.MethodName)) ∈ lw_tbl := lw_at lw_m9 127 rfl
theorem q2146 : (Jvm.Cond.instanceMethod ({ cls := "TunedHousesModel", name := "isWord", desc := "(IIIIII)Z" } : Jvm.MethodName)) ∈ lw_all := lw_g (lw_at lw_m9 128 rfl) rfl
theorem q2147 : (Jvm.Cond.code ({ cls := "TunedHousesModel", name := "isWord", desc := "(IIIIII)Z" } : Jvm.MethodName) prog_30_method_18_code (7 : Nat) (Option.some Jvm.ClassFile.FieldType.boolean)) ∈ lw_all := lw_g (lw_at lw_m9 129 rfl) rfl
theorem q2148 : (Jvm.Cond.methodLink "TunedHousesModel" (147 : Nat) ({ cls := "TunedHousesModel", name := "wordHere", desc := "()I" } : Jvm.MethodName)) ∈ lw_all := lw_g (lw_at lw_m9 130 rfl) rfl
theorem q2149 : (Jvm.Cond.privateMethod ({ cls := "TunedHousesModel", name := "wordHere", desc := "()I" } : Jvm.MethodName)) ∈ lw_tbl := lw_at lw_m9 131 rfl
theorem q2150 : (Jvm.Cond.instanceMethod ({ cls := "TunedHousesModel", name := "wordHere", desc := "()I" } : Jvm.MethodName)) ∈ lw_all := lw_g (lw_at lw_m9 132 rfl) rfl
theorem q2151 : (Jvm.Cond.code ({ cls := "TunedHousesModel", name := "wordHere", desc := "()I" } : Jvm.MethodName) prog_30_method_16_code (3 : Nat) (Option.some Jvm.ClassFile.FieldType.int)) ∈ lw_all := lw_g (lw_at lw_m9 133 rfl) rfl
theorem q2152 : (Jvm.Cond.methodLink "TunedHousesModel" (144 : Nat) ({ cls := "TunedHousesModel", name := "isSmall", desc := "(I)Z" } : Jvm.MethodName)) ∈ lw_all := lw_g (lw_at lw_m9 134 rfl) rfl
theorem q2153 : (Jvm.Cond.static ({ cls := "TunedHousesModel", name := "isSmall", desc := "(I)Z" } : Jvm.MethodName)) ∈ lw_all := lw_g (lw_at lw_m9 135 rfl) rfl
theorem q2154 : (Jvm.Cond.code ({ cls := "TunedHousesModel", name := "isSmall", desc := "(I)Z" } : Jvm.MethodName) prog_30_method_14_code (1 : Nat) (Option.some Jvm.ClassFile.FieldType.boolean)) ∈ lw_all := lw_g (lw_at lw_m9 136 rfl) rfl
theorem q2155 : (Jvm.Cond.methodLink "TunedHousesModel" (151 : Nat) ({ cls := "TunedHousesModel", name := "six", desc := "(IIIIII)I" } : Jvm.MethodName)) ∈ lw_all := lw_g (lw_at lw_m9 137 rfl) rfl
theorem q2156 : (Jvm.Cond.static ({ cls := "TunedHousesModel", name := "six", desc := "(IIIIII)I" } : Jvm.MethodName)) ∈ lw_all := lw_g (lw_at lw_m9 138 rfl) rfl
theorem q2157 : (Jvm.Cond.code ({ cls := "TunedHousesModel", name := "six", desc := "(IIIIII)I" } : Jvm.MethodName) prog_30_method_17_code (7 : Nat) (Option.some Jvm.ClassFile.FieldType.int)) ∈ lw_all := lw_g (lw_at lw_m9 139 rfl) rfl
theorem q2158 : (Jvm.Cond.methodLink "TunedHousesModel" (135 : Nat) ({ cls := "TunedHousesModel", name := "wrong", desc := "(II)V" } : Jvm.MethodName)) ∈ lw_all := lw_g (lw_at lw_m9 140 rfl) rfl
theorem q2159 : (Jvm.Cond.privateMethod ({ cls := "TunedHousesModel", name := "wrong", desc := "(II)V" } : Jvm.MethodName)) ∈ lw_tbl := lw_at lw_m9 141 rfl
theorem q2160 : (Jvm.Cond.instanceMethod ({ cls := "TunedHousesModel", name := "wrong", desc := "(II)V" } : Jvm.MethodName)) ∈ lw_all := lw_g (lw_at lw_m9 142 rfl) rfl
theorem q2161 : (Jvm.Cond.code ({ cls := "TunedHousesModel", name := "wrong", desc := "(II)V" } : Jvm.MethodName) prog_30_method_12_code (3 : Nat) (Option.none : Option Jvm.ClassFile.FieldType)) ∈ lw_all := lw_g (lw_at lw_m9 143 rfl) rfl
theorem q2162 : (Jvm.Cond.methodLink "TunedHousesModel" (175 : Nat) ({ cls := "TunedHousesModel", name := "mostOf", desc := "(I)I" } : Jvm.MethodName)) ∈ lw_all := lw_g (lw_at lw_m9 144 rfl) rfl
theorem q2163 : (Jvm.Cond.static ({ cls := "TunedHousesModel", name := "mostOf", desc := "(I)I" } : Jvm.MethodName)) ∈ lw_all := lw_g (lw_at lw_m9 145 rfl) rfl
theorem q2164 : (Jvm.Cond.code ({ cls := "TunedHousesModel", name := "mostOf", desc := "(I)I" } : Jvm.MethodName) prog_30_method_26_code (1 : Nat) (Option.some Jvm.ClassFile.FieldType.int)) ∈ lw_all := lw_g (lw_at lw_m9 146 rfl) rfl
theorem q2165 : (Jvm.Cond.methodLink "TunedHousesModel" (159 : Nat) ({ cls := "TunedHousesModel", name := "skipWord", desc := "()V" } : Jvm.MethodName)) ∈ lw_all := lw_g (lw_at lw_m9 147 rfl) rfl
theorem q2166 : (Jvm.Cond.privateMethod ({ cls := "TunedHousesModel", name := "skipWord", desc := "()V" } : Jvm.MethodName)) ∈ lw_tbl := lw_at lw_m9 148 rfl
theorem q2167 : (Jvm.Cond.instanceMethod ({ cls := "TunedHousesModel", name := "skipWord", desc := "()V" } : Jvm.MethodName)) ∈ lw_all := lw_g (lw_at lw_m9 149 rfl) rfl
theorem q2168 : (Jvm.Cond.code ({ cls := "TunedHousesModel", name := "skipWord", desc := "()V" } : Jvm.MethodName) prog_30_method_19_code (1 : Nat) (Option.none : Option Jvm.ClassFile.FieldType)) ∈ lw_all := lw_g (lw_at lw_m9 150 rfl) rfl
theorem q2169 : (Jvm.Cond.methodLink "TunedHousesModel" (168 : Nat) ({ cls := "TunedHousesModel", name := "number", desc := "(II)I" } : Jvm.MethodName)) ∈ lw_all := lw_g (lw_at lw_m9 151 rfl) rfl
theorem q2170 : (Jvm.Cond.privateMethod ({ cls := "TunedHousesModel", name := "number", desc := "(II)I" } : Jvm.MethodName)) ∈ lw_tbl := lw_at lw_m9 152 rfl
theorem q2171 : (Jvm.Cond.instanceMethod ({ cls := "TunedHousesModel", name := "number", desc := "(II)I" } : Jvm.MethodName)) ∈ lw_all := lw_g (lw_at lw_m9 153 rfl) rfl
theorem q2172 : (Jvm.Cond.code ({ cls := "TunedHousesModel", name := "number", desc := "(II)I" } : Jvm.MethodName) prog_30_method_15_code (5 : Nat) (Option.some Jvm.ClassFile.FieldType.int)) ∈ lw_all := lw_g (lw_at lw_m9 154 rfl) rfl
theorem q2173 : (Jvm.Cond.methodLink "TunedHousesModel" (131 : Nat) ({ cls := "TunedHousesModel", name := "isDigit", desc := "(I)Z" } : Jvm.MethodName)) ∈ lw_all := lw_g (lw_at lw_m9 155 rfl) rfl
theorem q2174 : (Jvm.Cond.static ({ cls := "TunedHousesModel", name := "isDigit", desc := "(I)Z" } : Jvm.MethodName)) ∈ lw_all := lw_g (lw_at lw_m9 156 rfl) rfl
theorem q2175 : (Jvm.Cond.code ({ cls := "TunedHousesModel", name := "isDigit", desc := "(I)Z" } : Jvm.MethodName) prog_30_method_13_code (1 : Nat) (Option.some Jvm.ClassFile.FieldType.boolean)) ∈ lw_all := lw_g (lw_at lw_m9 157 rfl) rfl
theorem q2176 : (Jvm.Cond.constant "TunedHousesModel" (139 : Nat) (100000 : Int32)) ∈ lw_all := lw_g (lw_at lw_m9 158 rfl) rfl
theorem q2177 : (Jvm.Cond.methodLink "TunedHousesModel" (178 : Nat) ({ cls := "TunedHousesModel", name := "readHouse", desc := "()I" } : Jvm.MethodName)) ∈ lw_all := lw_g (lw_at lw_m9 159 rfl) rfl
theorem q2178 : (Jvm.Cond.privateMethod ({ cls := "TunedHousesModel", name := "readHouse", desc := "()I" } : Jvm.MethodName)) ∈ lw_tbl := lw_at lw_m9 160 rfl
theorem q2179 : (Jvm.Cond.instanceMethod ({ cls := "TunedHousesModel", name := "readHouse", desc := "()I" } : Jvm.MethodName)) ∈ lw_all := lw_g (lw_at lw_m9 161 rfl) rfl
theorem q2180 : (Jvm.Cond.code ({ cls := "TunedHousesModel", name := "readHouse", desc := "()I" } : Jvm.MethodName) prog_30_method_27_code (1 : Nat) (Option.some Jvm.ClassFile.FieldType.int)) ∈ lw_all := lw_g (lw_at lw_m9 162 rfl) rfl
theorem q2181 : (Jvm.Cond.methodLink "TunedHousesModel" (181 : Nat) ({ cls := "TunedHousesModel", name := "isReadWall", desc := "(II)Z" } : Jvm.MethodName)) ∈ lw_all := lw_g (lw_at lw_m9 163 rfl) rfl
theorem q2182 : (Jvm.Cond.privateMethod ({ cls := "TunedHousesModel", name := "isReadWall", desc := "(II)Z" } : Jvm.MethodName)) ∈ lw_tbl := lw_at lw_m9 164 rfl
theorem q2183 : (Jvm.Cond.instanceMethod ({ cls := "TunedHousesModel", name := "isReadWall", desc := "(II)Z" } : Jvm.MethodName)) ∈ lw_all := lw_g (lw_at lw_m9 165 rfl) rfl
theorem q2184 : (Jvm.Cond.code ({ cls := "TunedHousesModel", name := "isReadWall", desc := "(II)Z" } : Jvm.MethodName) prog_30_method_28_code (4 : Nat) (Option.some Jvm.ClassFile.FieldType.boolean)) ∈ lw_all := lw_g (lw_at lw_m9 166 rfl) rfl
theorem q2185 : (Jvm.Cond.methodLink "TunedHousesModel" (185 : Nat) ({ cls := "TunedHousesModel", name := "sign", desc := "(I)V" } : Jvm.MethodName)) ∈ lw_all := lw_g (lw_at lw_m9 167 rfl) rfl
theorem q2186 : (Jvm.Cond.privateMethod ({ cls := "TunedHousesModel", name := "sign", desc := "(I)V" } : Jvm.MethodName)) ∈ lw_tbl := lw_at lw_m9 168 rfl
theorem q2187 : (Jvm.Cond.instanceMethod ({ cls := "TunedHousesModel", name := "sign", desc := "(I)V" } : Jvm.MethodName)) ∈ lw_all := lw_g (lw_at lw_m9 169 rfl) rfl
theorem q2188 : (Jvm.Cond.code ({ cls := "TunedHousesModel", name := "sign", desc := "(I)V" } : Jvm.MethodName) prog_30_method_21_code (2 : Nat) (Option.none : Option Jvm.ClassFile.FieldType)) ∈ lw_all := lw_g (lw_at lw_m9 170 rfl) rfl
theorem q2189 : (Jvm.Cond.methodLink "TunedHousesModel" (199 : Nat) ({ cls := "TunedHousesModel", name := "ends", desc := "()I" } : Jvm.MethodName)) ∈ lw_all := lw_g (lw_at lw_m9 171 rfl) rfl
theorem q2190 : (Jvm.Cond.privateMethod ({ cls := "TunedHousesModel", name := "ends", desc := "()I" } : Jvm.MethodName)) ∈ lw_tbl := lw_at lw_m9 172 rfl
theorem q2191 : (Jvm.Cond.instanceMethod ({ cls := "TunedHousesModel", name := "ends", desc := "()I" } : Jvm.MethodName)) ∈ lw_all := lw_g (lw_at lw_m9 173 rfl) rfl
theorem q2192 : (Jvm.Cond.code ({ cls := "TunedHousesModel", name := "ends", desc := "()I" } : Jvm.MethodName) prog_30_method_24_code (1 : Nat) (Option.some Jvm.ClassFile.FieldType.int)) ∈ lw_all := lw_g (lw_at lw_m9 174 rfl) rfl
theorem q2194 : (Jvm.Cond.instanceMethod ({ cls := "TunedHousesModel", name := "law", desc := "(I)I" } : Jvm.MethodName)) ∈ lw_all := lw_g (lw_at lw_m9 176 rfl) rfl
theorem q2195 : (Jvm.Cond.selects "TunedHousesModel" ({ cls := "TunedHousesModel", name := "law", desc := "(I)I" } : Jvm.MethodName) ({ cls := "TunedHousesModel", name := "law", desc := "(I)I" } : Jvm.MethodName)) ∈ lw_all := lw_g (lw_at lw_m9 177 rfl) rfl
theorem q2196 : (Jvm.Cond.code ({ cls := "TunedHousesModel", name := "law", desc := "(I)I" } : Jvm.MethodName) prog_30_method_40_code (2 : Nat) (Option.some Jvm.ClassFile.FieldType.int)) ∈ lw_all := lw_g (lw_at lw_m9 178 rfl) rfl
theorem q2197 : (Jvm.Cond.methodLink "TunedHousesModel" (243 : Nat) ({ cls := "TunedHousesModel", name := "sum", desc := "()V" } : Jvm.MethodName)) ∈ lw_all := lw_g (lw_at lw_m9 179 rfl) rfl
theorem q2198 : (Jvm.Cond.privateMethod ({ cls := "TunedHousesModel", name := "sum", desc := "()V" } : Jvm.MethodName)) ∈ lw_tbl := lw_at lw_m9 180 rfl
theorem q2199 : (Jvm.Cond.instanceMethod ({ cls := "TunedHousesModel", name := "sum", desc := "()V" } : Jvm.MethodName)) ∈ lw_all := lw_g (lw_at lw_m9 181 rfl) rfl
theorem q2200 : (Jvm.Cond.code ({ cls := "TunedHousesModel", name := "sum", desc := "()V" } : Jvm.MethodName) prog_30_method_36_code (2 : Nat) (Option.none : Option Jvm.ClassFile.FieldType)) ∈ lw_all := lw_g (lw_at lw_m9 182 rfl) rfl
theorem q2201 : (Jvm.Cond.methodLink "TunedHousesModel" (224 : Nat) ({ cls := "TunedHousesModel", name := "product", desc := "()V" } : Jvm.MethodName)) ∈ lw_all := lw_g (lw_at lw_m9 183 rfl) rfl
theorem q2202 : (Jvm.Cond.privateMethod ({ cls := "TunedHousesModel", name := "product", desc := "()V" } : Jvm.MethodName)) ∈ lw_tbl := lw_at lw_m9 184 rfl
theorem q2203 : (Jvm.Cond.instanceMethod ({ cls := "TunedHousesModel", name := "product", desc := "()V" } : Jvm.MethodName)) ∈ lw_all := lw_g (lw_at lw_m9 185 rfl) rfl
theorem q2204 : (Jvm.Cond.code ({ cls := "TunedHousesModel", name := "product", desc := "()V" } : Jvm.MethodName) prog_30_method_37_code (2 : Nat) (Option.none : Option Jvm.ClassFile.FieldType)) ∈ lw_all := lw_g (lw_at lw_m9 186 rfl) rfl
theorem q2205 : (Jvm.Cond.methodLink "TunedHousesModel" (233 : Nat) ({ cls := "TunedHousesModel", name := "one", desc := "()V" } : Jvm.MethodName)) ∈ lw_all := lw_g (lw_at lw_m9 187 rfl) rfl
theorem q2206 : (Jvm.Cond.privateMethod ({ cls := "TunedHousesModel", name := "one", desc := "()V" } : Jvm.MethodName)) ∈ lw_tbl := lw_at lw_m9 188 rfl
theorem q2207 : (Jvm.Cond.instanceMethod ({ cls := "TunedHousesModel", name := "one", desc := "()V" } : Jvm.MethodName)) ∈ lw_all := lw_g (lw_at lw_m9 189 rfl) rfl
theorem q2208 : (Jvm.Cond.code ({ cls := "TunedHousesModel", name := "one", desc := "()V" } : Jvm.MethodName) prog_30_method_39_code (3 : Nat) (Option.none : Option Jvm.ClassFile.FieldType)) ∈ lw_all := lw_g (lw_at lw_m9 190 rfl) rfl
theorem q2209 : (Jvm.Cond.methodLink "TunedHousesModel" (239 : Nat) ({ cls := "TunedHousesModel", name := "opensOne", desc := "()Z" } : Jvm.MethodName)) ∈ lw_all := lw_g (lw_at lw_m9 191 rfl) rfl
theorem q2210 : (Jvm.Cond.privateMethod ({ cls := "TunedHousesModel", name := "opensOne", desc := "()Z" } : Jvm.MethodName)) ∈ lw_tbl := lw_at lw_m9 192 rfl
theorem q2211 : (Jvm.Cond.instanceMethod ({ cls := "TunedHousesModel", name := "opensOne", desc := "()Z" } : Jvm.MethodName)) ∈ lw_all := lw_g (lw_at lw_m9 193 rfl) rfl
theorem q2212 : (Jvm.Cond.code ({ cls := "TunedHousesModel", name := "opensOne", desc := "()Z" } : Jvm.MethodName) prog_30_method_35_code (1 : Nat) (Option.some Jvm.ClassFile.FieldType.boolean)) ∈ lw_all := lw_g (lw_at lw_m9 194 rfl) rfl
theorem q2213 : (Jvm.Cond.methodLink "TunedHousesModel" (230 : Nat) ({ cls := "TunedHousesModel", name := "notes", desc := "(II)V" } : Jvm.MethodName)) ∈ lw_all := lw_g (lw_at lw_m9 195 rfl) rfl
theorem q2214 : (Jvm.Cond.privateMethod ({ cls := "TunedHousesModel", name := "notes", desc := "(II)V" } : Jvm.MethodName)) ∈ lw_tbl := lw_at lw_m9 196 rfl
theorem q2215 : (Jvm.Cond.instanceMethod ({ cls := "TunedHousesModel", name := "notes", desc := "(II)V" } : Jvm.MethodName)) ∈ lw_all := lw_g (lw_at lw_m9 197 rfl) rfl
theorem q2216 : (Jvm.Cond.code ({ cls := "TunedHousesModel", name := "notes", desc := "(II)V" } : Jvm.MethodName) prog_30_method_34_code (3 : Nat) (Option.none : Option Jvm.ClassFile.FieldType)) ∈ lw_all := lw_g (lw_at lw_m9 198 rfl) rfl
theorem q2217 : (Jvm.Cond.methodLink "TunedHousesModel" (246 : Nat) ({ cls := "TunedHousesModel", name := "knownHere", desc := "()I" } : Jvm.MethodName)) ∈ lw_all := lw_g (lw_at lw_m9 199 rfl) rfl
theorem q2218 : (Jvm.Cond.privateMethod ({ cls := "TunedHousesModel", name := "knownHere", desc := "()I" } : Jvm.MethodName)) ∈ lw_tbl := lw_at lw_m9 200 rfl
theorem q2219 : (Jvm.Cond.instanceMethod ({ cls := "TunedHousesModel", name := "knownHere", desc := "()I" } : Jvm.MethodName)) ∈ lw_all := lw_g (lw_at lw_m9 201 rfl) rfl
theorem q2220 : (Jvm.Cond.code ({ cls := "TunedHousesModel", name := "knownHere", desc := "()I" } : Jvm.MethodName) prog_30_method_38_code (1 : Nat) (Option.some Jvm.ClassFile.FieldType.int)) ∈ lw_all := lw_g (lw_at lw_m9 202 rfl) rfl
theorem q2221 : (Jvm.Cond.methodLink "TunedHousesModel" (236 : Nat) ({ cls := "TunedHousesModel", name := "takes", desc := "(IIIIII)Z" } : Jvm.MethodName)) ∈ lw_all := lw_g (lw_at lw_m9 203 rfl) rfl
theorem q2222 : (Jvm.Cond.privateMethod ({ cls := "TunedHousesModel", name := "takes", desc := "(IIIIII)Z" } : Jvm.MethodName)) ∈ lw_tbl := lw_at lw_m9 204 rfl
theorem q2223 : (Jvm.Cond.instanceMethod ({ cls := "TunedHousesModel", name := "takes", desc := "(IIIIII)Z" } : Jvm.MethodName)) ∈ lw_all := lw_g (lw_at lw_m9 205 rfl) rfl
theorem q2224 : (Jvm.Cond.code ({ cls := "TunedHousesModel", name := "takes", desc := "(IIIIII)Z" } : Jvm.MethodName) prog_30_method_20_code (8 : Nat) (Option.some Jvm.ClassFile.FieldType.boolean)) ∈ lw_all := lw_g (lw_at lw_m9 206 rfl) rfl
theorem q2225 : (Jvm.Cond.methodLink "TunedHousesModel" (227 : Nat) ({ cls := "TunedHousesModel", name := "takesSign", desc := "(I)Z" } : Jvm.MethodName)) ∈ lw_all := lw_g (lw_at lw_m9 207 rfl) rfl
theorem q2226 : (Jvm.Cond.privateMethod ({ cls := "TunedHousesModel", name := "takesSign", desc := "(I)Z" } : Jvm.MethodName)) ∈ lw_tbl := lw_at lw_m9 208 rfl
theorem q2227 : (Jvm.Cond.instanceMethod ({ cls := "TunedHousesModel", name := "takesSign", desc := "(I)Z" } : Jvm.MethodName)) ∈ lw_all := lw_g (lw_at lw_m9 209 rfl) rfl
theorem q2228 : (Jvm.Cond.code ({ cls := "TunedHousesModel", name := "takesSign", desc := "(I)Z" } : Jvm.MethodName) prog_30_method_22_code (3 : Nat) (Option.some Jvm.ClassFile.FieldType.boolean)) ∈ lw_all := lw_g (lw_at lw_m9 210 rfl) rfl
theorem q2230 : (Jvm.Cond.instanceMethod ({ cls := "TunedHousesModel", name := "book", desc := "(I)I" } : Jvm.MethodName)) ∈ lw_all := lw_g (lw_at lw_m9 212 rfl) rfl
theorem q2231 : (Jvm.Cond.selects "TunedHousesModel" ({ cls := "TunedHousesModel", name := "book", desc := "(I)I" } : Jvm.MethodName) ({ cls := "TunedHousesModel", name := "book", desc := "(I)I" } : Jvm.MethodName)) ∈ lw_all := lw_g (lw_at lw_m9 213 rfl) rfl
theorem q2232 : (Jvm.Cond.code ({ cls := "TunedHousesModel", name := "book", desc := "(I)I" } : Jvm.MethodName) prog_30_method_45_code (6 : Nat) (Option.some Jvm.ClassFile.FieldType.int)) ∈ lw_all := lw_g (lw_at lw_m9 214 rfl) rfl
theorem q2234 : (Jvm.Cond.instanceMethod ({ cls := "TunedHousesModel", name := "fault", desc := "()I" } : Jvm.MethodName)) ∈ lw_all := lw_g (lw_at lw_m9 216 rfl) rfl
theorem q2235 : (Jvm.Cond.selects "TunedHousesModel" ({ cls := "TunedHousesModel", name := "fault", desc := "()I" } : Jvm.MethodName) ({ cls := "TunedHousesModel", name := "fault", desc := "()I" } : Jvm.MethodName)) ∈ lw_all := lw_g (lw_at lw_m9 217 rfl) rfl
theorem q2236 : (Jvm.Cond.code ({ cls := "TunedHousesModel", name := "fault", desc := "()I" } : Jvm.MethodName) prog_30_method_46_code (1 : Nat) (Option.some Jvm.ClassFile.FieldType.int)) ∈ lw_all := lw_g (lw_at lw_m9 218 rfl) rfl
theorem q2238 : (Jvm.Cond.instanceMethod ({ cls := "TunedHousesModel", name := "work", desc := "(I)I" } : Jvm.MethodName)) ∈ lw_all := lw_g (lw_at lw_m9 220 rfl) rfl
theorem q2239 : (Jvm.Cond.selects "TunedHousesModel" ({ cls := "TunedHousesModel", name := "work", desc := "(I)I" } : Jvm.MethodName) ({ cls := "TunedHousesModel", name := "work", desc := "(I)I" } : Jvm.MethodName)) ∈ lw_all := lw_g (lw_at lw_m9 221 rfl) rfl
theorem q2240 : (Jvm.Cond.code ({ cls := "TunedHousesModel", name := "work", desc := "(I)I" } : Jvm.MethodName) prog_30_method_59_code (2 : Nat) (Option.some Jvm.ClassFile.FieldType.int)) ∈ lw_all := lw_g (lw_at lw_m9 222 rfl) rfl
theorem q2241 : (Jvm.Cond.methodLink "TunedHousesModel" (265 : Nat) ({ cls := "TunedHousesModel", name := "readsStep", desc := "()V" } : Jvm.MethodName)) ∈ lw_all := lw_g (lw_at lw_m9 223 rfl) rfl
theorem q2242 : (Jvm.Cond.privateMethod ({ cls := "TunedHousesModel", name := "readsStep", desc := "()V" } : Jvm.MethodName)) ∈ lw_tbl := lw_at lw_m9 224 rfl
theorem q2243 : (Jvm.Cond.instanceMethod ({ cls := "TunedHousesModel", name := "readsStep", desc := "()V" } : Jvm.MethodName)) ∈ lw_all := lw_g (lw_at lw_m9 225 rfl) rfl
theorem q2244 : (Jvm.Cond.code ({ cls := "TunedHousesModel", name := "readsStep", desc := "()V" } : Jvm.MethodName) prog_30_method_44_code (3 : Nat) (Option.none : Option Jvm.ClassFile.FieldType)) ∈ lw_all := lw_g (lw_at lw_m9 226 rfl) rfl
theorem q2245 : (Jvm.Cond.methodLink "TunedHousesModel" (259 : Nat) ({ cls := "TunedHousesModel", name := "stepHere", desc := "()I" } : Jvm.MethodName)) ∈ lw_all := lw_g (lw_at lw_m9 227 rfl) rfl
theorem q2246 : (Jvm.Cond.privateMethod ({ cls := "TunedHousesModel", name := "stepHere", desc := "()I" } : Jvm.MethodName)) ∈ lw_tbl := lw_at lw_m9 228 rfl
theorem q2247 : (Jvm.Cond.instanceMethod ({ cls := "TunedHousesModel", name := "stepHere", desc := "()I" } : Jvm.MethodName)) ∈ lw_all := lw_g (lw_at lw_m9 229 rfl) rfl
theorem q2248 : (Jvm.Cond.code ({ cls := "TunedHousesModel", name := "stepHere", desc := "()I" } : Jvm.MethodName) prog_30_method_43_code (1 : Nat) (Option.some Jvm.ClassFile.FieldType.int)) ∈ lw_all := lw_g (lw_at lw_m9 230 rfl) rfl
theorem q2249 : (Jvm.Cond.methodLink "TunedHousesModel" (319 : Nat) ({ cls := "TunedHousesModel", name := "copies", desc := "([I[I)V" } : Jvm.MethodName)) ∈ lw_all := lw_g (lw_at lw_m9 231 rfl) rfl
theorem q2250 : (Jvm.Cond.static ({ cls := "TunedHousesModel", name := "copies", desc := "([I[I)V" } : Jvm.MethodName)) ∈ lw_all := lw_g (lw_at lw_m9 232 rfl) rfl
theorem q2251 : (Jvm.Cond.code ({ cls := "TunedHousesModel", name := "copies", desc := "([I[I)V" } : Jvm.MethodName) prog_30_method_32_code (3 : Nat) (Option.none : Option Jvm.ClassFile.FieldType)) ∈ lw_all := lw_g (lw_at lw_m9 233 rfl) rfl
theorem q2252 : (Jvm.Cond.methodLink "TunedHousesModel" (309 : Nat) ({ cls := "TunedHousesModel", name := "goes", desc := "(II)V" } : Jvm.MethodName)) ∈ lw_all := lw_g (lw_at lw_m9 234 rfl) rfl
theorem q2253 : (Jvm.Cond.privateMethod ({ cls := "TunedHousesModel", name := "goes", desc := "(II)V" } : Jvm.MethodName)) ∈ lw_tbl := lw_at lw_m9 235 rfl
theorem q2254 : (Jvm.Cond.instanceMethod ({ cls := "TunedHousesModel", name := "goes", desc := "(II)V" } : Jvm.MethodName)) ∈ lw_all := lw_g (lw_at lw_m9 236 rfl) rfl
theorem q2255 : (Jvm.Cond.code ({ cls := "TunedHousesModel", name := "goes", desc := "(II)V" } : Jvm.MethodName) prog_30_method_58_code (5 : Nat) (Option.none : Option Jvm.ClassFile.FieldType)) ∈ lw_all := lw_g (lw_at lw_m9 237 rfl) rfl
theorem q2256 : (Jvm.Cond.methodLink "TunedHousesModel" (312 : Nat) ({ cls := "TunedHousesModel", name := "does", desc := "([I[I)Z" } : Jvm.MethodName)) ∈ lw_all := lw_g (lw_at lw_m9 238 rfl) rfl
theorem q2257 : (Jvm.Cond.privateMethod ({ cls := "TunedHousesModel", name := "does", desc := "([I[I)Z" } : Jvm.MethodName)) ∈ lw_tbl := lw_at lw_m9 239 rfl
theorem q2258 : (Jvm.Cond.instanceMethod ({ cls := "TunedHousesModel", name := "does", desc := "([I[I)Z" } : Jvm.MethodName)) ∈ lw_all := lw_g (lw_at lw_m10 0 rfl) rfl
theorem q2259 : (Jvm.Cond.code ({ cls := "TunedHousesModel", name := "does", desc := "([I[I)Z" } : Jvm.MethodName) prog_30_method_57_code (4 : Nat) (Option.some Jvm.ClassFile.FieldType.boolean)) ∈ lw_all := lw_g (lw_at lw_m10 1 rfl) rfl
theorem q2260 : (Jvm.Cond.methodLink "TunedHousesModel" (299 : Nat) ({ cls := "TunedHousesModel", name := "puts2", desc := "([III)Z" } : Jvm.MethodName)) ∈ lw_all := lw_g (lw_at lw_m10 2 rfl) rfl
theorem q2261 : (Jvm.Cond.privateMethod ({ cls := "TunedHousesModel", name := "puts2", desc := "([III)Z" } : Jvm.MethodName)) ∈ lw_tbl := lw_at lw_m10 3 rfl
theorem q2262 : (Jvm.Cond.instanceMethod ({ cls := "TunedHousesModel", name := "puts2", desc := "([III)Z" } : Jvm.MethodName)) ∈ lw_all := lw_g (lw_at lw_m10 4 rfl) rfl
theorem q2263 : (Jvm.Cond.code ({ cls := "TunedHousesModel", name := "puts2", desc := "([III)Z" } : Jvm.MethodName) prog_30_method_55_code (4 : Nat) (Option.some Jvm.ClassFile.FieldType.boolean)) ∈ lw_all := lw_g (lw_at lw_m10 5 rfl) rfl
theorem q2264 : (Jvm.Cond.methodLink "TunedHousesModel" (293 : Nat) ({ cls := "TunedHousesModel", name := "pianoIn", desc := "([II)I" } : Jvm.MethodName)) ∈ lw_all := lw_g (lw_at lw_m10 6 rfl) rfl
theorem q2265 : (Jvm.Cond.privateMethod ({ cls := "TunedHousesModel", name := "pianoIn", desc := "([II)I" } : Jvm.MethodName)) ∈ lw_tbl := lw_at lw_m10 7 rfl
theorem q2266 : (Jvm.Cond.instanceMethod ({ cls := "TunedHousesModel", name := "pianoIn", desc := "([II)I" } : Jvm.MethodName)) ∈ lw_all := lw_g (lw_at lw_m10 8 rfl) rfl
theorem q2267 : (Jvm.Cond.code ({ cls := "TunedHousesModel", name := "pianoIn", desc := "([II)I" } : Jvm.MethodName) prog_30_method_54_code (4 : Nat) (Option.some Jvm.ClassFile.FieldType.int)) ∈ lw_all := lw_g (lw_at lw_m10 9 rfl) rfl
theorem q2268 : (Jvm.Cond.methodLink "TunedHousesModel" (302 : Nat) ({ cls := "TunedHousesModel", name := "dayEnds", desc := "([I)V" } : Jvm.MethodName)) ∈ lw_all := lw_g (lw_at lw_m10 10 rfl) rfl
theorem q2269 : (Jvm.Cond.privateMethod ({ cls := "TunedHousesModel", name := "dayEnds", desc := "([I)V" } : Jvm.MethodName)) ∈ lw_tbl := lw_at lw_m10 11 rfl
theorem q2270 : (Jvm.Cond.instanceMethod ({ cls := "TunedHousesModel", name := "dayEnds", desc := "([I)V" } : Jvm.MethodName)) ∈ lw_all := lw_g (lw_at lw_m10 12 rfl) rfl
theorem q2271 : (Jvm.Cond.code ({ cls := "TunedHousesModel", name := "dayEnds", desc := "([I)V" } : Jvm.MethodName) prog_30_method_56_code (4 : Nat) (Option.none : Option Jvm.ClassFile.FieldType)) ∈ lw_all := lw_g (lw_at lw_m10 13 rfl) rfl
theorem q2272 : (Jvm.Cond.methodLink "TunedHousesModel" (296 : Nat) ({ cls := "TunedHousesModel", name := "brings", desc := "([II)I" } : Jvm.MethodName)) ∈ lw_all := lw_g (lw_at lw_m10 14 rfl) rfl
theorem q2273 : (Jvm.Cond.privateMethod ({ cls := "TunedHousesModel", name := "brings", desc := "([II)I" } : Jvm.MethodName)) ∈ lw_tbl := lw_at lw_m10 15 rfl
theorem q2274 : (Jvm.Cond.instanceMethod ({ cls := "TunedHousesModel", name := "brings", desc := "([II)I" } : Jvm.MethodName)) ∈ lw_all := lw_g (lw_at lw_m10 16 rfl) rfl
theorem q2275 : (Jvm.Cond.code ({ cls := "TunedHousesModel", name := "brings", desc := "([II)I" } : Jvm.MethodName) prog_30_method_53_code (5 : Nat) (Option.some Jvm.ClassFile.FieldType.int)) ∈ lw_all := lw_g (lw_at lw_m10 17 rfl) rfl
theorem q2276 : (Jvm.Cond.methodLink "TunedHousesModel" (286 : Nat) ({ cls := "TunedHousesModel", name := "forceOf", desc := "([II)I" } : Jvm.MethodName)) ∈ lw_all := lw_g (lw_at lw_m10 18 rfl) rfl
theorem q2277 : (Jvm.Cond.privateMethod ({ cls := "TunedHousesModel", name := "forceOf", desc := "([II)I" } : Jvm.MethodName)) ∈ lw_tbl := lw_at lw_m10 19 rfl
theorem q2278 : (Jvm.Cond.instanceMethod ({ cls := "TunedHousesModel", name := "forceOf", desc := "([II)I" } : Jvm.MethodName)) ∈ lw_all := lw_g (lw_at lw_m10 20 rfl) rfl
theorem q2279 : (Jvm.Cond.code ({ cls := "TunedHousesModel", name := "forceOf", desc := "([II)I" } : Jvm.MethodName) prog_30_method_52_code (3 : Nat) (Option.some Jvm.ClassFile.FieldType.int)) ∈ lw_all := lw_g (lw_at lw_m10 21 rfl) rfl
theorem q2280 : (Jvm.Cond.methodLink "TunedHousesModel" (282 : Nat) ({ cls := "TunedHousesModel", name := "forceWith", desc := "([III)I" } : Jvm.MethodName)) ∈ lw_all := lw_g (lw_at lw_m10 22 rfl) rfl
theorem q2281 : (Jvm.Cond.privateMethod ({ cls := "TunedHousesModel", name := "forceWith", desc := "([III)I" } : Jvm.MethodName)) ∈ lw_tbl := lw_at lw_m10 23 rfl
theorem q2282 : (Jvm.Cond.instanceMethod ({ cls := "TunedHousesModel", name := "forceWith", desc := "([III)I" } : Jvm.MethodName)) ∈ lw_all := lw_g (lw_at lw_m10 24 rfl) rfl
theorem q2283 : (Jvm.Cond.code ({ cls := "TunedHousesModel", name := "forceWith", desc := "([III)I" } : Jvm.MethodName) prog_30_method_51_code (7 : Nat) (Option.some Jvm.ClassFile.FieldType.int)) ∈ lw_all := lw_g (lw_at lw_m10 25 rfl) rfl
theorem q2284 : (Jvm.Cond.methodLink "TunedHousesModel" (271 : Nat) ({ cls := "TunedHousesModel", name := "isBeside", desc := "([III)Z" } : Jvm.MethodName)) ∈ lw_all := lw_g (lw_at lw_m10 26 rfl) rfl
theorem q2285 : (Jvm.Cond.privateMethod ({ cls := "TunedHousesModel", name := "isBeside", desc := "([III)Z" } : Jvm.MethodName)) ∈ lw_tbl := lw_at lw_m10 27 rfl
theorem q2286 : (Jvm.Cond.instanceMethod ({ cls := "TunedHousesModel", name := "isBeside", desc := "([III)Z" } : Jvm.MethodName)) ∈ lw_all := lw_g (lw_at lw_m10 28 rfl) rfl
theorem q2287 : (Jvm.Cond.code ({ cls := "TunedHousesModel", name := "isBeside", desc := "([III)Z" } : Jvm.MethodName) prog_30_method_48_code (4 : Nat) (Option.some Jvm.ClassFile.FieldType.boolean)) ∈ lw_all := lw_g (lw_at lw_m10 29 rfl) rfl
theorem q2288 : (Jvm.Cond.methodLink "TunedHousesModel" (268 : Nat) ({ cls := "TunedHousesModel", name := "isWall", desc := "(II)Z" } : Jvm.MethodName)) ∈ lw_all := lw_g (lw_at lw_m10 30 rfl) rfl
theorem q2289 : (Jvm.Cond.privateMethod ({ cls := "TunedHousesModel", name := "isWall", desc := "(II)Z" } : Jvm.MethodName)) ∈ lw_tbl := lw_at lw_m10 31 rfl
theorem q2290 : (Jvm.Cond.instanceMethod ({ cls := "TunedHousesModel", name := "isWall", desc := "(II)Z" } : Jvm.MethodName)) ∈ lw_all := lw_g (lw_at lw_m10 32 rfl) rfl
theorem q2291 : (Jvm.Cond.code ({ cls := "TunedHousesModel", name := "isWall", desc := "(II)Z" } : Jvm.MethodName) prog_30_method_47_code (4 : Nat) (Option.some Jvm.ClassFile.FieldType.boolean)) ∈ lw_all := lw_g (lw_at lw_m10 33 rfl) rfl
theorem q2292 : (Jvm.Cond.methodLink "TunedHousesModel" (278 : Nat) ({ cls := "TunedHousesModel", name := "forceBy", desc := "(IIIIIIII)I" } : Jvm.MethodName)) ∈ lw_all := lw_g (lw_at lw_m10 34 rfl) rfl
theorem q2293 : (Jvm.Cond.privateMethod ({ cls := "TunedHousesModel", name := "forceBy", desc := "(IIIIIIII)I" } : Jvm.MethodName)) ∈ lw_tbl := lw_at lw_m10 35 rfl
theorem q2294 : (Jvm.Cond.instanceMethod ({ cls := "TunedHousesModel", name := "forceBy", desc := "(IIIIIIII)I" } : Jvm.MethodName)) ∈ lw_all := lw_g (lw_at lw_m10 36 rfl) rfl
theorem q2295 : (Jvm.Cond.code ({ cls := "TunedHousesModel", name := "forceBy", desc := "(IIIIIIII)I" } : Jvm.MethodName) prog_30_method_50_code (9 : Nat) (Option.some Jvm.ClassFile.FieldType.int)) ∈ lw_all := lw_g (lw_at lw_m10 37 rfl) rfl
theorem q2296 : (Jvm.Cond.methodLink "TunedHousesModel" (275 : Nat) ({ cls := "TunedHousesModel", name := "byLaw", desc := "()I" } : Jvm.MethodName)) ∈ lw_all := lw_g (lw_at lw_m10 38 rfl) rfl
theorem q2297 : (Jvm.Cond.privateMethod ({ cls := "TunedHousesModel", name := "byLaw", desc := "()I" } : Jvm.MethodName)) ∈ lw_tbl := lw_at lw_m10 39 rfl
theorem q2298 : (Jvm.Cond.instanceMethod ({ cls := "TunedHousesModel", name := "byLaw", desc := "()I" } : Jvm.MethodName)) ∈ lw_all := lw_g (lw_at lw_m10 40 rfl) rfl
theorem q2299 : (Jvm.Cond.code ({ cls := "TunedHousesModel", name := "byLaw", desc := "()I" } : Jvm.MethodName) prog_30_method_42_code (3 : Nat) (Option.some Jvm.ClassFile.FieldType.int)) ∈ lw_all := lw_g (lw_at lw_m10 41 rfl) rfl
theorem q2300 : (Jvm.Cond.methodLink "TunedHousesModel" (255 : Nat) ({ cls := "TunedHousesModel", name := "by", desc := "(III)I" } : Jvm.MethodName)) ∈ lw_all := lw_g (lw_at lw_m10 42 rfl) rfl
theorem q2301 : (Jvm.Cond.static ({ cls := "TunedHousesModel", name := "by", desc := "(III)I" } : Jvm.MethodName)) ∈ lw_all := lw_g (lw_at lw_m10 43 rfl) rfl
theorem q2302 : (Jvm.Cond.code ({ cls := "TunedHousesModel", name := "by", desc := "(III)I" } : Jvm.MethodName) prog_30_method_41_code (3 : Nat) (Option.some Jvm.ClassFile.FieldType.int)) ∈ lw_all := lw_g (lw_at lw_m10 44 rfl) rfl
theorem q2303 : (Jvm.Cond.methodLink "TunedHousesModel" (249 : Nat) ({ cls := "TunedHousesModel", name := "less", desc := "(II)I" } : Jvm.MethodName)) ∈ lw_all := lw_g (lw_at lw_m10 45 rfl) rfl
theorem q2304 : (Jvm.Cond.static ({ cls := "TunedHousesModel", name := "less", desc := "(II)I" } : Jvm.MethodName)) ∈ lw_all := lw_g (lw_at lw_m10 46 rfl) rfl
theorem q2305 : (Jvm.Cond.code ({ cls := "TunedHousesModel", name := "less", desc := "(II)I" } : Jvm.MethodName) prog_30_method_6_code (2 : Nat) (Option.some Jvm.ClassFile.FieldType.int)) ∈ lw_all := lw_g (lw_at lw_m10 47 rfl) rfl
theorem q2306 : (Jvm.Cond.methodLink "TunedHousesModel" (252 : Nat) ({ cls := "TunedHousesModel", name := "more", desc := "(II)I" } : Jvm.MethodName)) ∈ lw_all := lw_g (lw_at lw_m10 48 rfl) rfl
theorem q2307 : (Jvm.Cond.static ({ cls := "TunedHousesModel", name := "more", desc := "(II)I" } : Jvm.MethodName)) ∈ lw_all := lw_g (lw_at lw_m10 49 rfl) rfl
theorem q2308 : (Jvm.Cond.code ({ cls := "TunedHousesModel", name := "more", desc := "(II)I" } : Jvm.MethodName) prog_30_method_7_code (2 : Nat) (Option.some Jvm.ClassFile.FieldType.int)) ∈ lw_all := lw_g (lw_at lw_m10 50 rfl) rfl
theorem q2309 : (Jvm.Cond.methodLink "TunedHousesModel" (290 : Nat) ({ cls := "TunedHousesModel", name := "isFight", desc := "([III)Z" } : Jvm.MethodName)) ∈ lw_all := lw_g (lw_at lw_m10 51 rfl) rfl
theorem q2310 : (Jvm.Cond.privateMethod ({ cls := "TunedHousesModel", name := "isFight", desc := "([III)Z" } : Jvm.MethodName)) ∈ lw_tbl := lw_at lw_m10 52 rfl
theorem q2311 : (Jvm.Cond.instanceMethod ({ cls := "TunedHousesModel", name := "isFight", desc := "([III)Z" } : Jvm.MethodName)) ∈ lw_all := lw_g (lw_at lw_m10 53 rfl) rfl
theorem q2312 : (Jvm.Cond.code ({ cls := "TunedHousesModel", name := "isFight", desc := "([III)Z" } : Jvm.MethodName) prog_30_method_49_code (4 : Nat) (Option.some Jvm.ClassFile.FieldType.boolean)) ∈ lw_all := lw_g (lw_at lw_m10 54 rfl) rfl
theorem q2314 : (Jvm.Cond.instanceMethod ({ cls := "TunedHousesModel", name := "undo", desc := "()I" } : Jvm.MethodName)) ∈ lw_all := lw_g (lw_at lw_m10 56 rfl) rfl
theorem q2315 : (Jvm.Cond.selects "TunedHousesModel" ({ cls := "TunedHousesModel", name := "undo", desc := "()I" } : Jvm.MethodName) ({ cls := "TunedHousesModel", name := "undo", desc := "()I" } : Jvm.MethodName)) ∈ lw_all := lw_g (lw_at lw_m10 57 rfl) rfl
theorem q2316 : (Jvm.Cond.code ({ cls := "TunedHousesModel", name := "undo", desc := "()I" } : Jvm.MethodName) prog_30_method_60_code (1 : Nat) (Option.some Jvm.ClassFile.FieldType.int)) ∈ lw_all := lw_g (lw_at lw_m10 58 rfl) rfl
theorem q2318 : (Jvm.Cond.instanceMethod ({ cls := "TunedHousesModel", name := "told", desc := "(I)I" } : Jvm.MethodName)) ∈ lw_all := lw_g (lw_at lw_m10 60 rfl) rfl
theorem q2319 : (Jvm.Cond.selects "TunedHousesModel" ({ cls := "TunedHousesModel", name := "told", desc := "(I)I" } : Jvm.MethodName) ({ cls := "TunedHousesModel", name := "told", desc := "(I)I" } : Jvm.MethodName)) ∈ lw_all := lw_g (lw_at lw_m10 61 rfl) rfl
theorem q2320 : (Jvm.Cond.code ({ cls := "TunedHousesModel", name := "told", desc := "(I)I" } : Jvm.MethodName) prog_30_method_67_code (5 : Nat) (Option.some Jvm.ClassFile.FieldType.int)) ∈ lw_all := lw_g (lw_at lw_m10 62 rfl) rfl
theorem q2321 : (Jvm.Cond.methodLink "TunedHousesModel" (329 : Nat) ({ cls := "TunedHousesModel", name := "fightsOf", desc := "([II)I" } : Jvm.MethodName)) ∈ lw_all := lw_g (lw_at lw_m10 63 rfl) rfl
theorem q2322 : (Jvm.Cond.privateMethod ({ cls := "TunedHousesModel", name := "fightsOf", desc := "([II)I" } : Jvm.MethodName)) ∈ lw_tbl := lw_at lw_m10 64 rfl
theorem q2323 : (Jvm.Cond.instanceMethod ({ cls := "TunedHousesModel", name := "fightsOf", desc := "([II)I" } : Jvm.MethodName)) ∈ lw_all := lw_g (lw_at lw_m10 65 rfl) rfl
theorem q2324 : (Jvm.Cond.code ({ cls := "TunedHousesModel", name := "fightsOf", desc := "([II)I" } : Jvm.MethodName) prog_30_method_66_code (5 : Nat) (Option.some Jvm.ClassFile.FieldType.int)) ∈ lw_all := lw_g (lw_at lw_m10 66 rfl) rfl
theorem q2325 : (Jvm.Cond.methodLink "TunedHousesModel" (332 : Nat) ({ cls := "TunedHousesModel", name := "wishedIn", desc := "([I)I" } : Jvm.MethodName)) ∈ lw_all := lw_g (lw_at lw_m10 67 rfl) rfl
theorem q2326 : (Jvm.Cond.privateMethod ({ cls := "TunedHousesModel", name := "wishedIn", desc := "([I)I" } : Jvm.MethodName)) ∈ lw_tbl := lw_at lw_m10 68 rfl
theorem q2327 : (Jvm.Cond.instanceMethod ({ cls := "TunedHousesModel", name := "wishedIn", desc := "([I)I" } : Jvm.MethodName)) ∈ lw_all := lw_g (lw_at lw_m10 69 rfl) rfl
theorem q2328 : (Jvm.Cond.code ({ cls := "TunedHousesModel", name := "wishedIn", desc := "([I)I" } : Jvm.MethodName) prog_30_method_63_code (4 : Nat) (Option.some Jvm.ClassFile.FieldType.int)) ∈ lw_all := lw_g (lw_at lw_m10 70 rfl) rfl
theorem q2329 : (Jvm.Cond.methodLink "TunedHousesModel" (326 : Nat) ({ cls := "TunedHousesModel", name := "thingOf", desc := "([II)I" } : Jvm.MethodName)) ∈ lw_all := lw_g (lw_at lw_m10 71 rfl) rfl
theorem q2330 : (Jvm.Cond.privateMethod ({ cls := "TunedHousesModel", name := "thingOf", desc := "([II)I" } : Jvm.MethodName)) ∈ lw_tbl := lw_at lw_m10 72 rfl
theorem q2331 : (Jvm.Cond.instanceMethod ({ cls := "TunedHousesModel", name := "thingOf", desc := "([II)I" } : Jvm.MethodName)) ∈ lw_all := lw_g (lw_at lw_m10 73 rfl) rfl
theorem q2332 : (Jvm.Cond.code ({ cls := "TunedHousesModel", name := "thingOf", desc := "([II)I" } : Jvm.MethodName) prog_30_method_62_code (5 : Nat) (Option.some Jvm.ClassFile.FieldType.int)) ∈ lw_all := lw_g (lw_at lw_m10 74 rfl) rfl
theorem q2333 : (Jvm.Cond.methodLink "TunedHousesModel" (323 : Nat) ({ cls := "TunedHousesModel", name := "amount", desc := "([III)I" } : Jvm.MethodName)) ∈ lw_all := lw_g (lw_at lw_m10 75 rfl) rfl
theorem q2334 : (Jvm.Cond.privateMethod ({ cls := "TunedHousesModel", name := "amount", desc := "([III)I" } : Jvm.MethodName)) ∈ lw_tbl := lw_at lw_m10 76 rfl
theorem q2335 : (Jvm.Cond.instanceMethod ({ cls := "TunedHousesModel", name := "amount", desc := "([III)I" } : Jvm.MethodName)) ∈ lw_all := lw_g (lw_at lw_m10 77 rfl) rfl
theorem q2336 : (Jvm.Cond.code ({ cls := "TunedHousesModel", name := "amount", desc := "([III)I" } : Jvm.MethodName) prog_30_method_61_code (4 : Nat) (Option.some Jvm.ClassFile.FieldType.int)) ∈ lw_all := lw_g (lw_at lw_m10 78 rfl) rfl
theorem q2337 : (Jvm.Cond.methodLink "TunedHousesModel" (336 : Nat) ({ cls := "TunedHousesModel", name := "allIn", desc := "([I)I" } : Jvm.MethodName)) ∈ lw_all := lw_g (lw_at lw_m10 79 rfl) rfl
theorem q2338 : (Jvm.Cond.privateMethod ({ cls := "TunedHousesModel", name := "allIn", desc := "([I)I" } : Jvm.MethodName)) ∈ lw_tbl := lw_at lw_m10 80 rfl
theorem q2339 : (Jvm.Cond.instanceMethod ({ cls := "TunedHousesModel", name := "allIn", desc := "([I)I" } : Jvm.MethodName)) ∈ lw_all := lw_g (lw_at lw_m10 81 rfl) rfl
theorem q2340 : (Jvm.Cond.code ({ cls := "TunedHousesModel", name := "allIn", desc := "([I)I" } : Jvm.MethodName) prog_30_method_65_code (4 : Nat) (Option.some Jvm.ClassFile.FieldType.int)) ∈ lw_all := lw_g (lw_at lw_m10 82 rfl) rfl
theorem q2342 : (Jvm.Cond.instanceMethod ({ cls := "TunedHousesModel", name := "house", desc := "(II)I" } : Jvm.MethodName)) ∈ lw_all := lw_g (lw_at lw_m10 84 rfl) rfl
theorem q2343 : (Jvm.Cond.selects "TunedHousesModel" ({ cls := "TunedHousesModel", name := "house", desc := "(II)I" } : Jvm.MethodName) ({ cls := "TunedHousesModel", name := "house", desc := "(II)I" } : Jvm.MethodName)) ∈ lw_all := lw_g (lw_at lw_m10 85 rfl) rfl
theorem q2344 : (Jvm.Cond.code ({ cls := "TunedHousesModel", name := "house", desc := "(II)I" } : Jvm.MethodName) prog_30_method_71_code (6 : Nat) (Option.some Jvm.ClassFile.FieldType.int)) ∈ lw_all := lw_g (lw_at lw_m10 86 rfl) rfl
theorem q2345 : (Jvm.Cond.methodLink "TunedHousesModel" (339 : Nat) ({ cls := "TunedHousesModel", name := "isHouse", desc := "(I)Z" } : Jvm.MethodName)) ∈ lw_all := lw_g (lw_at lw_m10 87 rfl) rfl
theorem q2346 : (Jvm.Cond.privateMethod ({ cls := "TunedHousesModel", name := "isHouse", desc := "(I)Z" } : Jvm.MethodName)) ∈ lw_tbl := lw_at lw_m10 88 rfl
theorem q2347 : (Jvm.Cond.instanceMethod ({ cls := "TunedHousesModel", name := "isHouse", desc := "(I)Z" } : Jvm.MethodName)) ∈ lw_all := lw_g (lw_at lw_m10 89 rfl) rfl
theorem q2348 : (Jvm.Cond.code ({ cls := "TunedHousesModel", name := "isHouse", desc := "(I)Z" } : Jvm.MethodName) prog_30_method_68_code (2 : Nat) (Option.some Jvm.ClassFile.FieldType.boolean)) ∈ lw_all := lw_g (lw_at lw_m10 90 rfl) rfl
theorem q2350 : (Jvm.Cond.instanceMethod ({ cls := "TunedHousesModel", name := "there", desc := "(II)I" } : Jvm.MethodName)) ∈ lw_all := lw_g (lw_at lw_m10 92 rfl) rfl
theorem q2351 : (Jvm.Cond.selects "TunedHousesModel" ({ cls := "TunedHousesModel", name := "there", desc := "(II)I" } : Jvm.MethodName) ({ cls := "TunedHousesModel", name := "there", desc := "(II)I" } : Jvm.MethodName)) ∈ lw_all := lw_g (lw_at lw_m10 93 rfl) rfl
theorem q2352 : (Jvm.Cond.code ({ cls := "TunedHousesModel", name := "there", desc := "(II)I" } : Jvm.MethodName) prog_30_method_72_code (3 : Nat) (Option.some Jvm.ClassFile.FieldType.int)) ∈ lw_all := lw_g (lw_at lw_m10 94 rfl) rfl
theorem q2353 : (Jvm.Cond.methodLink "TunedHousesModel" (342 : Nat) ({ cls := "TunedHousesModel", name := "isThing", desc := "(I)Z" } : Jvm.MethodName)) ∈ lw_all := lw_g (lw_at lw_m10 95 rfl) rfl
theorem q2354 : (Jvm.Cond.static ({ cls := "TunedHousesModel", name := "isThing", desc := "(I)Z" } : Jvm.MethodName)) ∈ lw_all := lw_g (lw_at lw_m10 96 rfl) rfl
theorem q2355 : (Jvm.Cond.code ({ cls := "TunedHousesModel", name := "isThing", desc := "(I)Z" } : Jvm.MethodName) prog_30_method_70_code (1 : Nat) (Option.some Jvm.ClassFile.FieldType.boolean)) ∈ lw_all := lw_g (lw_at lw_m10 97 rfl) rfl
theorem q2357 : (Jvm.Cond.instanceMethod ({ cls := "TunedHousesModel", name := "wall", desc := "(II)I" } : Jvm.MethodName)) ∈ lw_all := lw_g (lw_at lw_m10 99 rfl) rfl
theorem q2358 : (Jvm.Cond.selects "TunedHousesModel" ({ cls := "TunedHousesModel", name := "wall", desc := "(II)I" } : Jvm.MethodName) ({ cls := "TunedHousesModel", name := "wall", desc := "(II)I" } : Jvm.MethodName)) ∈ lw_all := lw_g (lw_at lw_m10 100 rfl) rfl
theorem q2359 : (Jvm.Cond.code ({ cls := "TunedHousesModel", name := "wall", desc := "(II)I" } : Jvm.MethodName) prog_30_method_73_code (3 : Nat) (Option.some Jvm.ClassFile.FieldType.int)) ∈ lw_all := lw_g (lw_at lw_m10 101 rfl) rfl
theorem q2361 : (Jvm.Cond.instanceMethod ({ cls := "TunedHousesModel", name := "piano", desc := "(II)I" } : Jvm.MethodName)) ∈ lw_all := lw_g (lw_at lw_m10 103 rfl) rfl
theorem q2362 : (Jvm.Cond.selects "TunedHousesModel" ({ cls := "TunedHousesModel", name := "piano", desc := "(II)I" } : Jvm.MethodName) ({ cls := "TunedHousesModel", name := "piano", desc := "(II)I" } : Jvm.MethodName)) ∈ lw_all := lw_g (lw_at lw_m10 104 rfl) rfl
theorem q2363 : (Jvm.Cond.code ({ cls := "TunedHousesModel", name := "piano", desc := "(II)I" } : Jvm.MethodName) prog_30_method_74_code (3 : Nat) (Option.some Jvm.ClassFile.FieldType.int)) ∈ lw_all := lw_g (lw_at lw_m10 105 rfl) rfl
theorem q2364 : (Jvm.Cond.methodLink "TunedHousesModel" (345 : Nat) ({ cls := "TunedHousesModel", name := "isPiano", desc := "(I)Z" } : Jvm.MethodName)) ∈ lw_all := lw_g (lw_at lw_m10 106 rfl) rfl
theorem q2365 : (Jvm.Cond.privateMethod ({ cls := "TunedHousesModel", name := "isPiano", desc := "(I)Z" } : Jvm.MethodName)) ∈ lw_tbl := lw_at lw_m10 107 rfl
theorem q2366 : (Jvm.Cond.instanceMethod ({ cls := "TunedHousesModel", name := "isPiano", desc := "(I)Z" } : Jvm.MethodName)) ∈ lw_all := lw_g (lw_at lw_m10 108 rfl) rfl
theorem q2367 : (Jvm.Cond.code ({ cls := "TunedHousesModel", name := "isPiano", desc := "(I)Z" } : Jvm.MethodName) prog_30_method_69_code (2 : Nat) (Option.some Jvm.ClassFile.FieldType.boolean)) ∈ lw_all := lw_g (lw_at lw_m10 109 rfl) rfl
theorem q2369 : (Jvm.Cond.instanceMethod ({ cls := "TunedHousesModel", name := "would", desc := "(IIIIIIII)I" } : Jvm.MethodName)) ∈ lw_all := lw_g (lw_at lw_m10 111 rfl) rfl
theorem q2370 : (Jvm.Cond.selects "TunedHousesModel" ({ cls := "TunedHousesModel", name := "would", desc := "(IIIIIIII)I" } : Jvm.MethodName) ({ cls := "TunedHousesModel", name := "would", desc := "(IIIIIIII)I" } : Jvm.MethodName)) ∈ lw_all := lw_g (lw_at lw_m10 112 rfl) rfl
theorem q2371 : (Jvm.Cond.code ({ cls := "TunedHousesModel", name := "would", desc := "(IIIIIIII)I" } : Jvm.MethodName) prog_30_method_75_code (9 : Nat) (Option.some Jvm.ClassFile.FieldType.int)) ∈ lw_all := lw_g (lw_at lw_m10 113 rfl) rfl
theorem q2373 : (Jvm.Cond.instanceMethod ({ cls := "TunedHousesModel", name := "ahead", desc := "(III)I" } : Jvm.MethodName)) ∈ lw_all := lw_g (lw_at lw_m10 115 rfl) rfl
theorem q2374 : (Jvm.Cond.selects "TunedHousesModel" ({ cls := "TunedHousesModel", name := "ahead", desc := "(III)I" } : Jvm.MethodName) ({ cls := "TunedHousesModel", name := "ahead", desc := "(III)I" } : Jvm.MethodName)) ∈ lw_all := lw_g (lw_at lw_m10 116 rfl) rfl
theorem q2375 : (Jvm.Cond.code ({ cls := "TunedHousesModel", name := "ahead", desc := "(III)I" } : Jvm.MethodName) prog_30_method_76_code (5 : Nat) (Option.some Jvm.ClassFile.FieldType.int)) ∈ lw_all := lw_g (lw_at lw_m10 117 rfl) rfl
theorem q2377 : (Jvm.Cond.instanceMethod ({ cls := "TunedHousesModel", name := "when", desc := "(II)I" } : Jvm.MethodName)) ∈ lw_all := lw_g (lw_at lw_m10 119 rfl) rfl
theorem q2378 : (Jvm.Cond.selects "TunedHousesModel" ({ cls := "TunedHousesModel", name := "when", desc := "(II)I" } : Jvm.MethodName) ({ cls := "TunedHousesModel", name := "when", desc := "(II)I" } : Jvm.MethodName)) ∈ lw_all := lw_g (lw_at lw_m10 120 rfl) rfl
theorem q2379 : (Jvm.Cond.code ({ cls := "TunedHousesModel", name := "when", desc := "(II)I" } : Jvm.MethodName) prog_30_method_77_code (4 : Nat) (Option.some Jvm.ClassFile.FieldType.int)) ∈ lw_all := lw_g (lw_at lw_m10 121 rfl) rfl
theorem q2381 : (Jvm.Cond.instanceMethod ({ cls := "TunedHousesModel", name := "muffle", desc := "(I)I" } : Jvm.MethodName)) ∈ lw_all := lw_g (lw_at lw_m10 123 rfl) rfl
theorem q2382 : (Jvm.Cond.selects "TunedHousesModel" ({ cls := "TunedHousesModel", name := "muffle", desc := "(I)I" } : Jvm.MethodName) ({ cls := "TunedHousesModel", name := "muffle", desc := "(I)I" } : Jvm.MethodName)) ∈ lw_all := lw_g (lw_at lw_m10 124 rfl) rfl
theorem q2383 : (Jvm.Cond.code ({ cls := "TunedHousesModel", name := "muffle", desc := "(I)I" } : Jvm.MethodName) prog_30_method_78_code (3 : Nat) (Option.some Jvm.ClassFile.FieldType.int)) ∈ lw_all := lw_g (lw_at lw_m10 125 rfl) rfl
theorem q2385 : (Jvm.Cond.instanceMethod ({ cls := "TunedHousesModel", name := "places", desc := "()I" } : Jvm.MethodName)) ∈ lw_all := lw_g (lw_at lw_m10 127 rfl) rfl
theorem q2386 : (Jvm.Cond.selects "TunedHousesModel" ({ cls := "TunedHousesModel", name := "places", desc := "()I" } : Jvm.MethodName) ({ cls := "TunedHousesModel", name := "places", desc := "()I" } : Jvm.MethodName)) ∈ lw_all := lw_g (lw_at lw_m10 128 rfl) rfl
theorem q2387 : (Jvm.Cond.code ({ cls := "TunedHousesModel", name := "places", desc := "()I" } : Jvm.MethodName) prog_30_method_81_code (1 : Nat) (Option.some Jvm.ClassFile.FieldType.int)) ∈ lw_all := lw_g (lw_at lw_m10 129 rfl) rfl
theorem q2388 : (Jvm.Cond.methodLink "TunedHousesModel" (354 : Nat) ({ cls := "TunedHousesModel", name := "placesAll", desc := "()V" } : Jvm.MethodName)) ∈ lw_all := lw_g (lw_at lw_m10 130 rfl) rfl
theorem q2389 : (Jvm.Cond.privateMethod ({ cls := "TunedHousesModel", name := "placesAll", desc := "()V" } : Jvm.MethodName)) ∈ lw_tbl := lw_at lw_m10 131 rfl
theorem q2390 : (Jvm.Cond.instanceMethod ({ cls := "TunedHousesModel", name := "placesAll", desc := "()V" } : Jvm.MethodName)) ∈ lw_all := lw_g (lw_at lw_m10 132 rfl) rfl
theorem q2391 : (Jvm.Cond.code ({ cls := "TunedHousesModel", name := "placesAll", desc := "()V" } : Jvm.MethodName) prog_30_method_80_code (2 : Nat) (Option.none : Option Jvm.ClassFile.FieldType)) ∈ lw_all := lw_g (lw_at lw_m10 133 rfl) rfl
theorem q2392 : (Jvm.Cond.methodLink "TunedHousesModel" (351 : Nat) ({ cls := "TunedHousesModel", name := "putsFrom", desc := "(II)V" } : Jvm.MethodName)) ∈ lw_all := lw_g (lw_at lw_m10 134 rfl) rfl
theorem q2393 : (Jvm.Cond.privateMethod ({ cls := "TunedHousesModel", name := "putsFrom", desc := "(II)V" } : Jvm.MethodName)) ∈ lw_tbl := lw_at lw_m10 135 rfl
theorem q2394 : (Jvm.Cond.instanceMethod ({ cls := "TunedHousesModel", name := "putsFrom", desc := "(II)V" } : Jvm.MethodName)) ∈ lw_all := lw_g (lw_at lw_m10 136 rfl) rfl
theorem q2395 : (Jvm.Cond.code ({ cls := "TunedHousesModel", name := "putsFrom", desc := "(II)V" } : Jvm.MethodName) prog_30_method_79_code (6 : Nat) (Option.none : Option Jvm.ClassFile.FieldType)) ∈ lw_all := lw_g (lw_at lw_m10 137 rfl) rfl
theorem q2397 : (Jvm.Cond.instanceMethod ({ cls := "TunedHousesModel", name := "placed", desc := "(I)I" } : Jvm.MethodName)) ∈ lw_all := lw_g (lw_at lw_m10 139 rfl) rfl
theorem q2398 : (Jvm.Cond.selects "TunedHousesModel" ({ cls := "TunedHousesModel", name := "placed", desc := "(I)I" } : Jvm.MethodName) ({ cls := "TunedHousesModel", name := "placed", desc := "(I)I" } : Jvm.MethodName)) ∈ lw_all := lw_g (lw_at lw_m10 140 rfl) rfl
theorem q2399 : (Jvm.Cond.code ({ cls := "TunedHousesModel", name := "placed", desc := "(I)I" } : Jvm.MethodName) prog_30_method_82_code (2 : Nat) (Option.some Jvm.ClassFile.FieldType.int)) ∈ lw_all := lw_g (lw_at lw_m10 141 rfl) rfl
theorem q2401 : (Jvm.Cond.instanceMethod ({ cls := "TunedHousesModel", name := "from", desc := "(II)I" } : Jvm.MethodName)) ∈ lw_all := lw_g (lw_at lw_m10 143 rfl) rfl
theorem q2402 : (Jvm.Cond.selects "TunedHousesModel" ({ cls := "TunedHousesModel", name := "from", desc := "(II)I" } : Jvm.MethodName) ({ cls := "TunedHousesModel", name := "from", desc := "(II)I" } : Jvm.MethodName)) ∈ lw_all := lw_g (lw_at lw_m10 144 rfl) rfl
theorem q2403 : (Jvm.Cond.code ({ cls := "TunedHousesModel", name := "from", desc := "(II)I" } : Jvm.MethodName) prog_30_method_85_code (7 : Nat) (Option.some Jvm.ClassFile.FieldType.int)) ∈ lw_all := lw_g (lw_at lw_m10 145 rfl) rfl
theorem q2404 : (Jvm.Cond.methodLink "TunedHousesModel" (357 : Nat) ({ cls := "TunedHousesModel", name := "laysHeard", desc := "(III)V" } : Jvm.MethodName)) ∈ lw_all := lw_g (lw_at lw_m10 146 rfl) rfl
theorem q2405 : (Jvm.Cond.privateMethod ({ cls := "TunedHousesModel", name := "laysHeard", desc := "(III)V" } : Jvm.MethodName)) ∈ lw_tbl := lw_at lw_m10 147 rfl
theorem q2406 : (Jvm.Cond.instanceMethod ({ cls := "TunedHousesModel", name := "laysHeard", desc := "(III)V" } : Jvm.MethodName)) ∈ lw_all := lw_g (lw_at lw_m10 148 rfl) rfl
theorem q2407 : (Jvm.Cond.code ({ cls := "TunedHousesModel", name := "laysHeard", desc := "(III)V" } : Jvm.MethodName) prog_30_method_83_code (6 : Nat) (Option.none : Option Jvm.ClassFile.FieldType)) ∈ lw_all := lw_g (lw_at lw_m10 149 rfl) rfl
theorem q2408 : (Jvm.Cond.methodLink "TunedHousesModel" (361 : Nat) ({ cls := "TunedHousesModel", name := "isHeard", desc := "()Z" } : Jvm.MethodName)) ∈ lw_all := lw_g (lw_at lw_m10 150 rfl) rfl
theorem q2409 : (Jvm.Cond.privateMethod ({ cls := "TunedHousesModel", name := "isHeard", desc := "()Z" } : Jvm.MethodName)) ∈ lw_tbl := lw_at lw_m10 151 rfl
theorem q2410 : (Jvm.Cond.instanceMethod ({ cls := "TunedHousesModel", name := "isHeard", desc := "()Z" } : Jvm.MethodName)) ∈ lw_all := lw_g (lw_at lw_m10 152 rfl) rfl
theorem q2411 : (Jvm.Cond.code ({ cls := "TunedHousesModel", name := "isHeard", desc := "()Z" } : Jvm.MethodName) prog_30_method_84_code (2 : Nat) (Option.some Jvm.ClassFile.FieldType.boolean)) ∈ lw_all := lw_g (lw_at lw_m10 153 rfl) rfl
theorem q2413 : (Jvm.Cond.instanceMethod ({ cls := "TunedHousesModel", name := "look", desc := "(II)I" } : Jvm.MethodName)) ∈ lw_all := lw_g (lw_at lw_m10 155 rfl) rfl
theorem q2414 : (Jvm.Cond.selects "TunedHousesModel" ({ cls := "TunedHousesModel", name := "look", desc := "(II)I" } : Jvm.MethodName) ({ cls := "TunedHousesModel", name := "look", desc := "(II)I" } : Jvm.MethodName)) ∈ lw_all := lw_g (lw_at lw_m10 156 rfl) rfl
theorem q2415 : (Jvm.Cond.code ({ cls := "TunedHousesModel", name := "look", desc := "(II)I" } : Jvm.MethodName) prog_30_method_87_code (8 : Nat) (Option.some Jvm.ClassFile.FieldType.int)) ∈ lw_all := lw_g (lw_at lw_m10 157 rfl) rfl
theorem q2416 : (Jvm.Cond.methodLink "TunedHousesModel" (364 : Nat) ({ cls := "TunedHousesModel", name := "isTold", desc := "(I)Z" } : Jvm.MethodName)) ∈ lw_all := lw_g (lw_at lw_m10 158 rfl) rfl
theorem q2417 : (Jvm.Cond.privateMethod ({ cls := "TunedHousesModel", name := "isTold", desc := "(I)Z" } : Jvm.MethodName)) ∈ lw_tbl := lw_at lw_m10 159 rfl
theorem q2418 : (Jvm.Cond.instanceMethod ({ cls := "TunedHousesModel", name := "isTold", desc := "(I)Z" } : Jvm.MethodName)) ∈ lw_all := lw_g (lw_at lw_m10 160 rfl) rfl
theorem q2419 : (Jvm.Cond.code ({ cls := "TunedHousesModel", name := "isTold", desc := "(I)Z" } : Jvm.MethodName) prog_30_method_86_code (3 : Nat) (Option.some Jvm.ClassFile.FieldType.boolean)) ∈ lw_all := lw_g (lw_at lw_m10 161 rfl) rfl
theorem q2421 : (Jvm.Cond.instanceMethod ({ cls := "TunedHousesModel", name := "way", desc := "(II)I" } : Jvm.MethodName)) ∈ lw_all := lw_g (lw_at lw_m10 163 rfl) rfl
theorem q2422 : (Jvm.Cond.selects "TunedHousesModel" ({ cls := "TunedHousesModel", name := "way", desc := "(II)I" } : Jvm.MethodName) ({ cls := "TunedHousesModel", name := "way", desc := "(II)I" } : Jvm.MethodName)) ∈ lw_all := lw_g (lw_at lw_m10 164 rfl) rfl
theorem q2423 : (Jvm.Cond.code ({ cls := "TunedHousesModel", name := "way", desc := "(II)I" } : Jvm.MethodName) prog_30_method_88_code (6 : Nat) (Option.some Jvm.ClassFile.FieldType.int)) ∈ lw_all := lw_g (lw_at lw_m10 165 rfl) rfl
theorem q2425 : (Jvm.Cond.instanceMethod ({ cls := "TunedHousesModel", name := "alone", desc := "()I" } : Jvm.MethodName)) ∈ lw_all := lw_g (lw_at lw_m10 167 rfl) rfl
theorem q2426 : (Jvm.Cond.selects "TunedHousesModel" ({ cls := "TunedHousesModel", name := "alone", desc := "()I" } : Jvm.MethodName) ({ cls := "TunedHousesModel", name := "alone", desc := "()I" } : Jvm.MethodName)) ∈ lw_all := lw_g (lw_at lw_m10 168 rfl) rfl
theorem q2427 : (Jvm.Cond.code ({ cls := "TunedHousesModel", name := "alone", desc := "()I" } : Jvm.MethodName) prog_30_method_90_code (5 : Nat) (Option.some Jvm.ClassFile.FieldType.int)) ∈ lw_all := lw_g (lw_at lw_m10 169 rfl) rfl
theorem q2428 : (Jvm.Cond.methodLink "TunedHousesModel" (367 : Nat) ({ cls := "TunedHousesModel", name := "ones", desc := "(I)I" } : Jvm.MethodName)) ∈ lw_all := lw_g (lw_at lw_m10 170 rfl) rfl
theorem q2429 : (Jvm.Cond.static ({ cls := "TunedHousesModel", name := "ones", desc := "(I)I" } : Jvm.MethodName)) ∈ lw_all := lw_g (lw_at lw_m10 171 rfl) rfl
theorem q2430 : (Jvm.Cond.code ({ cls := "TunedHousesModel", name := "ones", desc := "(I)I" } : Jvm.MethodName) prog_30_method_89_code (3 : Nat) (Option.some Jvm.ClassFile.FieldType.int)) ∈ lw_all := lw_g (lw_at lw_m10 172 rfl) rfl
theorem q2431 : (Jvm.Cond.methodLink "TunedHousesModel" (370 : Nat) ({ cls := "TunedHousesModel", name := "has", desc := "(II)Z" } : Jvm.MethodName)) ∈ lw_all := lw_g (lw_at lw_m10 173 rfl) rfl
theorem q2432 : (Jvm.Cond.static ({ cls := "TunedHousesModel", name := "has", desc := "(II)Z" } : Jvm.MethodName)) ∈ lw_all := lw_g (lw_at lw_m10 174 rfl) rfl
theorem q2433 : (Jvm.Cond.code ({ cls := "TunedHousesModel", name := "has", desc := "(II)Z" } : Jvm.MethodName) prog_30_method_8_code (2 : Nat) (Option.some Jvm.ClassFile.FieldType.boolean)) ∈ lw_all := lw_g (lw_at lw_m10 175 rfl) rfl
theorem q2435 : (Jvm.Cond.instanceMethod ({ cls := "TunedHousesModel", name := "price", desc := "(III)J" } : Jvm.MethodName)) ∈ lw_all := lw_g (lw_at lw_m10 177 rfl) rfl
theorem q2436 : (Jvm.Cond.selects "TunedHousesModel" ({ cls := "TunedHousesModel", name := "price", desc := "(III)J" } : Jvm.MethodName) ({ cls := "TunedHousesModel", name := "price", desc := "(III)J" } : Jvm.MethodName)) ∈ lw_all := lw_g (lw_at lw_m10 178 rfl) rfl
theorem q2437 : (Jvm.Cond.code ({ cls := "TunedHousesModel", name := "price", desc := "(III)J" } : Jvm.MethodName) prog_30_method_91_code (14 : Nat) (Option.some Jvm.ClassFile.FieldType.long)) ∈ lw_all := lw_g (lw_at lw_m10 179 rfl) rfl
theorem q2439 : (Jvm.Cond.instanceMethod ({ cls := "TunedHousesModel", name := "tuner", desc := "(III)I" } : Jvm.MethodName)) ∈ lw_all := lw_g (lw_at lw_m10 181 rfl) rfl
theorem q2440 : (Jvm.Cond.selects "TunedHousesModel" ({ cls := "TunedHousesModel", name := "tuner", desc := "(III)I" } : Jvm.MethodName) ({ cls := "TunedHousesModel", name := "tuner", desc := "(III)I" } : Jvm.MethodName)) ∈ lw_all := lw_g (lw_at lw_m10 182 rfl) rfl
theorem q2441 : (Jvm.Cond.code ({ cls := "TunedHousesModel", name := "tuner", desc := "(III)I" } : Jvm.MethodName) prog_30_method_94_code (10 : Nat) (Option.some Jvm.ClassFile.FieldType.int)) ∈ lw_all := lw_g (lw_at lw_m10 183 rfl) rfl
theorem q2442 : (Jvm.Cond.methodLink "TunedHousesModel" (373 : Nat) ({ cls := "TunedHousesModel", name := "hisBy", desc := "(III)I" } : Jvm.MethodName)) ∈ lw_all := lw_g (lw_at lw_m10 184 rfl) rfl
theorem q2443 : (Jvm.Cond.static ({ cls := "TunedHousesModel", name := "hisBy", desc := "(III)I" } : Jvm.MethodName)) ∈ lw_all := lw_g (lw_at lw_m10 185 rfl) rfl
theorem q2444 : (Jvm.Cond.code ({ cls := "TunedHousesModel", name := "hisBy", desc := "(III)I" } : Jvm.MethodName) prog_30_method_92_code (3 : Nat) (Option.some Jvm.ClassFile.FieldType.int)) ∈ lw_all := lw_g (lw_at lw_m10 186 rfl) rfl
theorem q2445 : (Jvm.Cond.methodLink "TunedHousesModel" (376 : Nat) ({ cls := "TunedHousesModel", name := "itsBy", desc := "(IIII)I" } : Jvm.MethodName)) ∈ lw_all := lw_g (lw_at lw_m10 187 rfl) rfl
theorem q2446 : (Jvm.Cond.static ({ cls := "TunedHousesModel", name := "itsBy", desc := "(IIII)I" } : Jvm.MethodName)) ∈ lw_all := lw_g (lw_at lw_m10 188 rfl) rfl
theorem q2447 : (Jvm.Cond.code ({ cls := "TunedHousesModel", name := "itsBy", desc := "(IIII)I" } : Jvm.MethodName) prog_30_method_93_code (4 : Nat) (Option.some Jvm.ClassFile.FieldType.int)) ∈ lw_all := lw_g (lw_at lw_m10 189 rfl) rfl
theorem q2449 : (Jvm.Cond.instanceMethod ({ cls := "TunedHousesModel", name := "share", desc := "(III)I" } : Jvm.MethodName)) ∈ lw_all := lw_g (lw_at lw_m10 191 rfl) rfl
theorem q2450 : (Jvm.Cond.selects "TunedHousesModel" ({ cls := "TunedHousesModel", name := "share", desc := "(III)I" } : Jvm.MethodName) ({ cls := "TunedHousesModel", name := "share", desc := "(III)I" } : Jvm.MethodName)) ∈ lw_all := lw_g (lw_at lw_m10 192 rfl) rfl
theorem q2451 : (Jvm.Cond.code ({ cls := "TunedHousesModel", name := "share", desc := "(III)I" } : Jvm.MethodName) prog_30_method_96_code (5 : Nat) (Option.some Jvm.ClassFile.FieldType.int)) ∈ lw_all := lw_g (lw_at lw_m10 193 rfl) rfl
theorem q2452 : (Jvm.Cond.methodLink "TunedHousesModel" (380 : Nat) ({ cls := "TunedHousesModel", name := "givenBy", desc := "(II)I" } : Jvm.MethodName)) ∈ lw_all := lw_g (lw_at lw_m10 194 rfl) rfl
theorem q2453 : (Jvm.Cond.privateMethod ({ cls := "TunedHousesModel", name := "givenBy", desc := "(II)I" } : Jvm.MethodName)) ∈ lw_tbl := lw_at lw_m10 195 rfl
theorem q2454 : (Jvm.Cond.instanceMethod ({ cls := "TunedHousesModel", name := "givenBy", desc := "(II)I" } : Jvm.MethodName)) ∈ lw_all := lw_g (lw_at lw_m10 196 rfl) rfl
theorem q2455 : (Jvm.Cond.code ({ cls := "TunedHousesModel", name := "givenBy", desc := "(II)I" } : Jvm.MethodName) prog_30_method_95_code (5 : Nat) (Option.some Jvm.ClassFile.FieldType.int)) ∈ lw_all := lw_g (lw_at lw_m10 197 rfl) rfl
theorem q2457 : (Jvm.Cond.instanceMethod ({ cls := "TunedHousesModel", name := "those", desc := "(I)I" } : Jvm.MethodName)) ∈ lw_all := lw_g (lw_at lw_m10 199 rfl) rfl
theorem q2458 : (Jvm.Cond.selects "TunedHousesModel" ({ cls := "TunedHousesModel", name := "those", desc := "(I)I" } : Jvm.MethodName) ({ cls := "TunedHousesModel", name := "those", desc := "(I)I" } : Jvm.MethodName)) ∈ lw_all := lw_g (lw_at lw_m10 200 rfl) rfl
theorem q2459 : (Jvm.Cond.code ({ cls := "TunedHousesModel", name := "those", desc := "(I)I" } : Jvm.MethodName) prog_30_method_97_code (4 : Nat) (Option.some Jvm.ClassFile.FieldType.int)) ∈ lw_all := lw_g (lw_at lw_m10 201 rfl) rfl
theorem q2461 : (Jvm.Cond.instanceMethod ({ cls := "TunedHousesModel", name := "loudest", desc := "(I)I" } : Jvm.MethodName)) ∈ lw_all := lw_g (lw_at lw_m10 203 rfl) rfl
theorem q2462 : (Jvm.Cond.selects "TunedHousesModel" ({ cls := "TunedHousesModel", name := "loudest", desc := "(I)I" } : Jvm.MethodName) ({ cls := "TunedHousesModel", name := "loudest", desc := "(I)I" } : Jvm.MethodName)) ∈ lw_all := lw_g (lw_at lw_m10 204 rfl) rfl
theorem q2463 : (Jvm.Cond.code ({ cls := "TunedHousesModel", name := "loudest", desc := "(I)I" } : Jvm.MethodName) prog_30_method_98_code (5 : Nat) (Option.some Jvm.ClassFile.FieldType.int)) ∈ lw_all := lw_g (lw_at lw_m10 205 rfl) rfl
theorem q2465 : (Jvm.Cond.instanceMethod ({ cls := "TunedHousesModel", name := "quiet", desc := "(I)I" } : Jvm.MethodName)) ∈ lw_all := lw_g (lw_at lw_m10 207 rfl) rfl
theorem q2466 : (Jvm.Cond.selects "TunedHousesModel" ({ cls := "TunedHousesModel", name := "quiet", desc := "(I)I" } : Jvm.MethodName) ({ cls := "TunedHousesModel", name := "quiet", desc := "(I)I" } : Jvm.MethodName)) ∈ lw_all := lw_g (lw_at lw_m10 208 rfl) rfl
theorem q2467 : (Jvm.Cond.code ({ cls := "TunedHousesModel", name := "quiet", desc := "(I)I" } : Jvm.MethodName) prog_30_method_99_code (5 : Nat) (Option.some Jvm.ClassFile.FieldType.int)) ∈ lw_all := lw_g (lw_at lw_m10 209 rfl) rfl
theorem q2469 : (Jvm.Cond.instanceMethod ({ cls := "TunedHousesModel", name := "tunes", desc := "(II)I" } : Jvm.MethodName)) ∈ lw_all := lw_g (lw_at lw_m10 211 rfl) rfl
theorem q2470 : (Jvm.Cond.selects "TunedHousesModel" ({ cls := "TunedHousesModel", name := "tunes", desc := "(II)I" } : Jvm.MethodName) ({ cls := "TunedHousesModel", name := "tunes", desc := "(II)I" } : Jvm.MethodName)) ∈ lw_all := lw_g (lw_at lw_m10 212 rfl) rfl
theorem q2471 : (Jvm.Cond.code ({ cls := "TunedHousesModel", name := "tunes", desc := "(II)I" } : Jvm.MethodName) prog_30_method_100_code (3 : Nat) (Option.some Jvm.ClassFile.FieldType.int)) ∈ lw_all := lw_g (lw_at lw_m10 213 rfl) rfl
theorem q2473 : (Jvm.Cond.instanceMethod ({ cls := "TunedHousesModel", name := "oldest", desc := "(I)I" } : Jvm.MethodName)) ∈ lw_all := lw_g (lw_at lw_m10 215 rfl) rfl
theorem q2474 : (Jvm.Cond.selects "TunedHousesModel" ({ cls := "TunedHousesModel", name := "oldest", desc := "(I)I" } : Jvm.MethodName) ({ cls := "TunedHousesModel", name := "oldest", desc := "(I)I" } : Jvm.MethodName)) ∈ lw_all := lw_g (lw_at lw_m10 216 rfl) rfl
theorem q2475 : (Jvm.Cond.code ({ cls := "TunedHousesModel", name := "oldest", desc := "(I)I" } : Jvm.MethodName) prog_30_method_101_code (5 : Nat) (Option.some Jvm.ClassFile.FieldType.int)) ∈ lw_all := lw_g (lw_at lw_m10 217 rfl) rfl
theorem q2477 : (Jvm.Cond.instanceMethod ({ cls := "TunedHousesModel", name := "empty", desc := "()I" } : Jvm.MethodName)) ∈ lw_all := lw_g (lw_at lw_m10 219 rfl) rfl
theorem q2478 : (Jvm.Cond.selects "TunedHousesModel" ({ cls := "TunedHousesModel", name := "empty", desc := "()I" } : Jvm.MethodName) ({ cls := "TunedHousesModel", name := "empty", desc := "()I" } : Jvm.MethodName)) ∈ lw_all := lw_g (lw_at lw_m10 220 rfl) rfl
theorem q2479 : (Jvm.Cond.code ({ cls := "TunedHousesModel", name := "empty", desc := "()I" } : Jvm.MethodName) prog_30_method_102_code (3 : Nat) (Option.some Jvm.ClassFile.FieldType.int)) ∈ lw_all := lw_g (lw_at lw_m10 221 rfl) rfl
theorem q2481 : (Jvm.Cond.instanceMethod ({ cls := "TunedHousesModel", name := "margin", desc := "(I)I" } : Jvm.MethodName)) ∈ lw_all := lw_g (lw_at lw_m10 223 rfl) rfl
theorem q2482 : (Jvm.Cond.selects "TunedHousesModel" ({ cls := "TunedHousesModel", name := "margin", desc := "(I)I" } : Jvm.MethodName) ({ cls := "TunedHousesModel", name := "margin", desc := "(I)I" } : Jvm.MethodName)) ∈ lw_all := lw_g (lw_at lw_m10 224 rfl) rfl
theorem q2483 : (Jvm.Cond.code ({ cls := "TunedHousesModel", name := "margin", desc := "(I)I" } : Jvm.MethodName) prog_30_method_103_code (5 : Nat) (Option.some Jvm.ClassFile.FieldType.int)) ∈ lw_all := lw_g (lw_at lw_m10 225 rfl) rfl
theorem q2485 : (Jvm.Cond.instanceMethod ({ cls := "TunedHousesModel", name := "changed", desc := "()I" } : Jvm.MethodName)) ∈ lw_all := lw_g (lw_at lw_m10 227 rfl) rfl
theorem q2486 : (Jvm.Cond.selects "TunedHousesModel" ({ cls := "TunedHousesModel", name := "changed", desc := "()I" } : Jvm.MethodName) ({ cls := "TunedHousesModel", name := "changed", desc := "()I" } : Jvm.MethodName)) ∈ lw_all := lw_g (lw_at lw_m10 228 rfl) rfl
theorem q2487 : (Jvm.Cond.code ({ cls := "TunedHousesModel", name := "changed", desc := "()I" } : Jvm.MethodName) prog_30_method_104_code (1 : Nat) (Option.some Jvm.ClassFile.FieldType.int)) ∈ lw_all := lw_g (lw_at lw_m10 229 rfl) rfl
theorem q2488 : (Jvm.Cond.methodLink "TunedHousesModel" (383 : Nat) ({ cls := "TunedHousesModel", name := "changedIn", desc := "([I)I" } : Jvm.MethodName)) ∈ lw_all := lw_g (lw_at lw_m10 230 rfl) rfl
theorem q2489 : (Jvm.Cond.privateMethod ({ cls := "TunedHousesModel", name := "changedIn", desc := "([I)I" } : Jvm.MethodName)) ∈ lw_tbl := lw_at lw_m10 231 rfl
theorem q2490 : (Jvm.Cond.instanceMethod ({ cls := "TunedHousesModel", name := "changedIn", desc := "([I)I" } : Jvm.MethodName)) ∈ lw_all := lw_g (lw_at lw_m10 232 rfl) rfl
theorem q2491 : (Jvm.Cond.code ({ cls := "TunedHousesModel", name := "changedIn", desc := "([I)I" } : Jvm.MethodName) prog_30_method_64_code (4 : Nat) (Option.some Jvm.ClassFile.FieldType.int)) ∈ lw_all := lw_g (lw_at lw_m10 233 rfl) rfl
theorem q2493 : (Jvm.Cond.instanceMethod ({ cls := "TunedHousesModel", name := "year", desc := "(IIII)I" } : Jvm.MethodName)) ∈ lw_all := lw_g (lw_at lw_m10 235 rfl) rfl
theorem q2494 : (Jvm.Cond.selects "TunedHousesModel" ({ cls := "TunedHousesModel", name := "year", desc := "(IIII)I" } : Jvm.MethodName) ({ cls := "TunedHousesModel", name := "year", desc := "(IIII)I" } : Jvm.MethodName)) ∈ lw_all := lw_g (lw_at lw_m10 236 rfl) rfl
theorem q2495 : (Jvm.Cond.code ({ cls := "TunedHousesModel", name := "year", desc := "(IIII)I" } : Jvm.MethodName) prog_30_method_108_code (5 : Nat) (Option.some Jvm.ClassFile.FieldType.int)) ∈ lw_all := lw_g (lw_at lw_m10 237 rfl) rfl
theorem q2496 : (Jvm.Cond.methodLink "TunedHousesModel" (396 : Nat) ({ cls := "TunedHousesModel", name := "isYear", desc := "(II)Z" } : Jvm.MethodName)) ∈ lw_all := lw_g (lw_at lw_m10 238 rfl) rfl
theorem q2497 : (Jvm.Cond.static ({ cls := "TunedHousesModel", name := "isYear", desc := "(II)Z" } : Jvm.MethodName)) ∈ lw_all := lw_g (lw_at lw_m10 239 rfl) rfl
theorem q2498 : (Jvm.Cond.code ({ cls := "TunedHousesModel", name := "isYear", desc := "(II)Z" } : Jvm.MethodName) prog_30_method_107_code (2 : Nat) (Option.some Jvm.ClassFile.FieldType.boolean)) ∈ lw_all := lw_g (lw_at lw_m11 0 rfl) rfl
theorem q2499 : (Jvm.Cond.methodLink "TunedHousesModel" (399 : Nat) ({ cls := "TunedHousesModel", name := "yearBy", desc := "(III)V" } : Jvm.MethodName)) ∈ lw_all := lw_g (lw_at lw_m11 1 rfl) rfl
theorem q2500 : (Jvm.Cond.privateMethod ({ cls := "TunedHousesModel", name := "yearBy", desc := "(III)V" } : Jvm.MethodName)) ∈ lw_tbl := lw_at lw_m11 2 rfl
theorem q2501 : (Jvm.Cond.instanceMethod ({ cls := "TunedHousesModel", name := "yearBy", desc := "(III)V" } : Jvm.MethodName)) ∈ lw_all := lw_g (lw_at lw_m11 3 rfl) rfl
theorem q2502 : (Jvm.Cond.code ({ cls := "TunedHousesModel", name := "yearBy", desc := "(III)V" } : Jvm.MethodName) prog_30_method_106_code (6 : Nat) (Option.none : Option Jvm.ClassFile.FieldType)) ∈ lw_all := lw_g (lw_at lw_m11 4 rfl) rfl
theorem q2503 : (Jvm.Cond.methodLink "TunedHousesModel" (393 : Nat) ({ cls := "TunedHousesModel", name := "draw", desc := "(I)I" } : Jvm.MethodName)) ∈ lw_all := lw_g (lw_at lw_m11 5 rfl) rfl
theorem q2504 : (Jvm.Cond.privateMethod ({ cls := "TunedHousesModel", name := "draw", desc := "(I)I" } : Jvm.MethodName)) ∈ lw_tbl := lw_at lw_m11 6 rfl
theorem q2505 : (Jvm.Cond.instanceMethod ({ cls := "TunedHousesModel", name := "draw", desc := "(I)I" } : Jvm.MethodName)) ∈ lw_all := lw_g (lw_at lw_m11 7 rfl) rfl
theorem q2506 : (Jvm.Cond.code ({ cls := "TunedHousesModel", name := "draw", desc := "(I)I" } : Jvm.MethodName) prog_30_method_105_code (2 : Nat) (Option.some Jvm.ClassFile.FieldType.int)) ∈ lw_all := lw_g (lw_at lw_m11 8 rfl) rfl
theorem q2507 : (Jvm.Cond.constant "TunedHousesModel" (389 : Nat) (1103515245 : Int32)) ∈ lw_all := lw_g (lw_at lw_m11 9 rfl) rfl
theorem q2509 : (Jvm.Cond.instanceMethod ({ cls := "TunedHousesModel", name := "span", desc := "(IIIIII)I" } : Jvm.MethodName)) ∈ lw_all := lw_g (lw_at lw_m11 11 rfl) rfl
theorem q2510 : (Jvm.Cond.selects "TunedHousesModel" ({ cls := "TunedHousesModel", name := "span", desc := "(IIIIII)I" } : Jvm.MethodName) ({ cls := "TunedHousesModel", name := "span", desc := "(IIIIII)I" } : Jvm.MethodName)) ∈ lw_all := lw_g (lw_at lw_m11 12 rfl) rfl
theorem q2511 : (Jvm.Cond.code ({ cls := "TunedHousesModel", name := "span", desc := "(IIIIII)I" } : Jvm.MethodName) prog_30_method_109_code (12 : Nat) (Option.some Jvm.ClassFile.FieldType.int)) ∈ lw_all := lw_g (lw_at lw_m11 13 rfl) rfl
theorem q2513 : (Jvm.Cond.instanceMethod ({ cls := "TunedHousesModel", name := "image", desc := "()I" } : Jvm.MethodName)) ∈ lw_all := lw_g (lw_at lw_m11 15 rfl) rfl
theorem q2514 : (Jvm.Cond.selects "TunedHousesModel" ({ cls := "TunedHousesModel", name := "image", desc := "()I" } : Jvm.MethodName) ({ cls := "TunedHousesModel", name := "image", desc := "()I" } : Jvm.MethodName)) ∈ lw_all := lw_g (lw_at lw_m11 16 rfl) rfl
theorem q2515 : (Jvm.Cond.code ({ cls := "TunedHousesModel", name := "image", desc := "()I" } : Jvm.MethodName) prog_30_method_112_code (1 : Nat) (Option.some Jvm.ClassFile.FieldType.int)) ∈ lw_all := lw_g (lw_at lw_m11 17 rfl) rfl
theorem q2516 : (Jvm.Cond.methodLink "TunedHousesModel" (409 : Nat) ({ cls := "TunedHousesModel", name := "putsAll", desc := "([IZ)V" } : Jvm.MethodName)) ∈ lw_all := lw_g (lw_at lw_m11 18 rfl) rfl
theorem q2517 : (Jvm.Cond.privateMethod ({ cls := "TunedHousesModel", name := "putsAll", desc := "([IZ)V" } : Jvm.MethodName)) ∈ lw_tbl := lw_at lw_m11 19 rfl
theorem q2518 : (Jvm.Cond.instanceMethod ({ cls := "TunedHousesModel", name := "putsAll", desc := "([IZ)V" } : Jvm.MethodName)) ∈ lw_all := lw_g (lw_at lw_m11 20 rfl) rfl
theorem q2519 : (Jvm.Cond.code ({ cls := "TunedHousesModel", name := "putsAll", desc := "([IZ)V" } : Jvm.MethodName) prog_30_method_111_code (5 : Nat) (Option.none : Option Jvm.ClassFile.FieldType)) ∈ lw_all := lw_g (lw_at lw_m11 21 rfl) rfl
theorem q2520 : (Jvm.Cond.methodLink "TunedHousesModel" (405 : Nat) ({ cls := "TunedHousesModel", name := "puts", desc := "([IIZ)I" } : Jvm.MethodName)) ∈ lw_all := lw_g (lw_at lw_m11 22 rfl) rfl
theorem q2521 : (Jvm.Cond.privateMethod ({ cls := "TunedHousesModel", name := "puts", desc := "([IIZ)I" } : Jvm.MethodName)) ∈ lw_tbl := lw_at lw_m11 23 rfl
theorem q2522 : (Jvm.Cond.instanceMethod ({ cls := "TunedHousesModel", name := "puts", desc := "([IIZ)I" } : Jvm.MethodName)) ∈ lw_all := lw_g (lw_at lw_m11 24 rfl) rfl
theorem q2523 : (Jvm.Cond.code ({ cls := "TunedHousesModel", name := "puts", desc := "([IIZ)I" } : Jvm.MethodName) prog_30_method_110_code (4 : Nat) (Option.some Jvm.ClassFile.FieldType.int)) ∈ lw_all := lw_g (lw_at lw_m11 25 rfl) rfl
theorem q2525 : (Jvm.Cond.instanceMethod ({ cls := "TunedHousesModel", name := "restore", desc := "()I" } : Jvm.MethodName)) ∈ lw_all := lw_g (lw_at lw_m11 27 rfl) rfl
theorem q2526 : (Jvm.Cond.selects "TunedHousesModel" ({ cls := "TunedHousesModel", name := "restore", desc := "()I" } : Jvm.MethodName) ({ cls := "TunedHousesModel", name := "restore", desc := "()I" } : Jvm.MethodName)) ∈ lw_all := lw_g (lw_at lw_m11 28 rfl) rfl
theorem q2527 : (Jvm.Cond.code ({ cls := "TunedHousesModel", name := "restore", desc := "()I" } : Jvm.MethodName) prog_30_method_113_code (1 : Nat) (Option.some Jvm.ClassFile.FieldType.int)) ∈ lw_all := lw_g (lw_at lw_m11 29 rfl) rfl
theorem q2529 : (Jvm.Cond.instanceMethod ({ cls := "TunedHousesModel", name := "status", desc := "(I)I" } : Jvm.MethodName)) ∈ lw_all := lw_g (lw_at lw_m11 31 rfl) rfl
theorem q2530 : (Jvm.Cond.selects "TunedHousesModel" ({ cls := "TunedHousesModel", name := "status", desc := "(I)I" } : Jvm.MethodName) ({ cls := "TunedHousesModel", name := "status", desc := "(I)I" } : Jvm.MethodName)) ∈ lw_all := lw_g (lw_at lw_m11 32 rfl) rfl
theorem q2531 : (Jvm.Cond.code ({ cls := "TunedHousesModel", name := "status", desc := "(I)I" } : Jvm.MethodName) prog_30_method_114_code (2 : Nat) (Option.some Jvm.ClassFile.FieldType.int)) ∈ lw_all := lw_g (lw_at lw_m11 33 rfl) rfl
theorem q2533 : (Jvm.Cond.instanceMethod ({ cls := "TunedHousesModel", name := "count", desc := "(I)I" } : Jvm.MethodName)) ∈ lw_all := lw_g (lw_at lw_m11 35 rfl) rfl
theorem q2534 : (Jvm.Cond.selects "TunedHousesModel" ({ cls := "TunedHousesModel", name := "count", desc := "(I)I" } : Jvm.MethodName) ({ cls := "TunedHousesModel", name := "count", desc := "(I)I" } : Jvm.MethodName)) ∈ lw_all := lw_g (lw_at lw_m11 36 rfl) rfl
theorem q2535 : (Jvm.Cond.code ({ cls := "TunedHousesModel", name := "count", desc := "(I)I" } : Jvm.MethodName) prog_30_method_115_code (2 : Nat) (Option.some Jvm.ClassFile.FieldType.int)) ∈ lw_all := lw_g (lw_at lw_m11 37 rfl) rfl
theorem q2573 : (Jvm.Cond.castable "TunedHousesModel" "java/lang/Object") ∈ lw_tbl := lw_at lw_m11 75 rfl
theorem in_X8 : ∀ w ∈ wsX80, w ∈ lw_all := lw_in wsX80 [2004, 2006, 2008, 2010, 2012, 2014, 2016, 2018, 2020, 2022, 2024, 2026, 2028, 2030, 2032, 2034, 2036, 2038, 2040, 2042, 2044, 2046, 2048, 2050, 2052, 2054, 2056, 2058, 2060, 2062, 2064, 2066, 2068, 2070, 2072, 2074, 2076, 2078, 2080, 2082, 2084, 2086, 2088, 2090, 2092, 2094, 2096, 2098, 2100, 2102] (by decide +kernel) (by decide +kernel)
