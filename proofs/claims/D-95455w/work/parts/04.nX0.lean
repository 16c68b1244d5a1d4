/-! SecondChances -/
set_option maxRecDepth 100000
def RX0 : String := "SecondChances"
def TX0 : u_T := fun k => match k with
  | 0 => ("SecondChances", "latest", "I", false)
  | 1 => ("SecondChances", "people", "[LSecondChances$Person;", true)
  | 2 => ("SecondChances", "weather", "[I", true)
  | 3 => ("SecondChances", "settings", "[I", true)
  | 4 => ("SecondChances", "stale", "Z", false)
  | 5 => ("SecondChances", "deeds", "LSecondChances$Deeds;", true)
  | 6 => ("SecondChances", "rules", "LSecondChances$Rules;", true)
  | 7 => ("SecondChances", "together", "[[I", true)
  | 8 => ("SecondChances", "worths", "[I", true)
  | 9 => ("SecondChances", "cheapest", "[I", true)
  | 10 => ("SecondChances", "before", "[I", true)
  | 11 => ("SecondChances", "fixed", "[I", true)
  | 12 => ("SecondChances", "bestWorth", "I", false)
  | 13 => ("SecondChances", "bestCost", "I", false)
  | 14 => ("SecondChances", "worth", "I", false)
  | 15 => ("SecondChances", "cost", "I", false)
  | 16 => ("SecondChances", "row", "[I", true)
  | 17 => ("SecondChances", "sights", "Ljava/util/ArrayList;", true)
  | 18 => ("SecondChances", "pairs", "Ljava/util/ArrayList;", true)
  | _ => ("SecondChances", "sheets", "[LSecondChances$Sheet;", true)
def tyX0 : Nat → FieldType := fun k => match k with
  | 0 => .int
  | 1 => .array (.object "SecondChances$Person")
  | 2 => .array .int
  | 3 => .array .int
  | 4 => .boolean
  | 5 => .object "SecondChances$Deeds"
  | 6 => .object "SecondChances$Rules"
  | 7 => .array (.array .int)
  | 8 => .array .int
  | 9 => .array .int
  | 10 => .array .int
  | 11 => .array .int
  | 12 => .int
  | 13 => .int
  | 14 => .int
  | 15 => .int
  | 16 => .array .int
  | 17 => .object "java/util/ArrayList"
  | 18 => .object "java/util/ArrayList"
  | _ => .array (.object "SecondChances$Sheet")
abbrev wsX00 : List Cond := u_ws RX0 TX0 20
set_option maxRecDepth 100000 in
theorem nmX0 : ∀ a, a < 20 → ∀ b, b < 20 → a ≠ b → (TX0 a).2.1 ≠ (TX0 b).2.1 := by decide +kernel
set_option maxRecDepth 100000 in
theorem tyX0_ok : ∀ k, k < 20 → parseFieldDescriptor (TX0 k).2.2.1 = some (tyX0 k) := by decide +kernel
abbrev cX0_init : ByteArray := prog_1_method_1_code
def yX0_init : MethodName := ⟨RX0, "<init>", "()V"⟩
def dkwX0_init_12 : List UInt8 := [181, 0, 78, 177]
abbrev dktX0_init_12 : List UInt8 := dkwX0_init_12 ++ []
def dkwX0_init_11 : List UInt8 := [183, 0, 77, 83, 89, 5, 187, 0, 75, 89, 183, 0, 77, 83, 89, 6, 187, 0, 75, 89, 183, 0, 77, 83]
abbrev dktX0_init_11 : List UInt8 := dkwX0_init_11 ++ dktX0_init_12
def dkwX0_init_10 : List UInt8 := [181, 0, 72, 42, 7, 189, 0, 75, 89, 3, 187, 0, 75, 89, 183, 0, 77, 83, 89, 4, 187, 0, 75, 89]
abbrev dktX0_init_10 : List UInt8 := dkwX0_init_10 ++ dktX0_init_11
def dkwX0_init_9 : List UInt8 := [188, 10, 181, 0, 62, 42, 187, 0, 65, 89, 183, 0, 67, 181, 0, 68, 42, 187, 0, 65, 89, 183, 0, 67]
abbrev dktX0_init_9 : List UInt8 := dkwX0_init_9 ++ dktX0_init_10
def dkwX0_init_8 : List UInt8 := [181, 0, 53, 42, 17, 1, 0, 188, 10, 181, 0, 56, 42, 16, 8, 188, 10, 181, 0, 59, 42, 16, 8]
abbrev dktX0_init_8 : List UInt8 := dkwX0_init_8 ++ dktX0_init_9
def dkwX0_init_7 : List UInt8 := [197, 0, 45, 2, 181, 0, 47, 42, 17, 1, 0, 188, 10, 181, 0, 50, 42, 17, 1, 0, 188, 10]
abbrev dktX0_init_7 : List UInt8 := dkwX0_init_7 ++ dktX0_init_8
def dkwX0_init_6 : List UInt8 := [183, 0, 33, 181, 0, 34, 42, 187, 0, 38, 89, 183, 0, 40, 181, 0, 41, 42, 16, 8, 17, 1, 0]
abbrev dktX0_init_6 : List UInt8 := dkwX0_init_6 ++ dktX0_init_7
def dkwX0_init_5 : List UInt8 := [89, 5, 17, 3, 231, 79, 89, 6, 16, 6, 79, 181, 0, 24, 42, 4, 181, 0, 27, 42, 187, 0, 31, 89]
abbrev dktX0_init_5 : List UInt8 := dkwX0_init_5 ++ dktX0_init_6
def dkwX0_init_4 : List UInt8 := [181, 0, 14, 42, 16, 8, 188, 10, 181, 0, 20, 42, 7, 188, 10, 89, 3, 16, 9, 79, 89, 4, 3, 79]
abbrev dktX0_init_4 : List UInt8 := dkwX0_init_4 ++ dktX0_init_5
def dkwX0_init_3 : List UInt8 := [89, 16, 6, 187, 0, 11, 89, 183, 0, 13, 83, 89, 16, 7, 187, 0, 11, 89, 183, 0, 13, 83]
abbrev dktX0_init_3 : List UInt8 := dkwX0_init_3 ++ dktX0_init_4
def dkwX0_init_2 : List UInt8 := [183, 0, 13, 83, 89, 7, 187, 0, 11, 89, 183, 0, 13, 83, 89, 8, 187, 0, 11, 89, 183, 0, 13, 83]
abbrev dktX0_init_2 : List UInt8 := dkwX0_init_2 ++ dktX0_init_3
def dkwX0_init_1 : List UInt8 := [187, 0, 11, 89, 183, 0, 13, 83, 89, 5, 187, 0, 11, 89, 183, 0, 13, 83, 89, 6, 187, 0, 11, 89]
abbrev dktX0_init_1 : List UInt8 := dkwX0_init_1 ++ dktX0_init_2
def dkwX0_init_0 : List UInt8 := [42, 183, 0, 5, 42, 16, 8, 189, 0, 11, 89, 3, 187, 0, 11, 89, 183, 0, 13, 83, 89, 4]
abbrev dktX0_init_0 : List UInt8 := dkwX0_init_0 ++ dktX0_init_1
theorem dksX0_init_0 : cX0_init.data.toList.drop 0 = dktX0_init_0 := by decide +kernel
theorem dksX0_init_1 : cX0_init.data.toList.drop 22 = dktX0_init_1 := dk_seg dksX0_init_0 22 rfl rfl
theorem dksX0_init_2 : cX0_init.data.toList.drop 46 = dktX0_init_2 := dk_seg dksX0_init_1 24 rfl rfl
theorem dksX0_init_3 : cX0_init.data.toList.drop 70 = dktX0_init_3 := dk_seg dksX0_init_2 24 rfl rfl
theorem dksX0_init_4 : cX0_init.data.toList.drop 92 = dktX0_init_4 := dk_seg dksX0_init_3 22 rfl rfl
theorem dksX0_init_5 : cX0_init.data.toList.drop 116 = dktX0_init_5 := dk_seg dksX0_init_4 24 rfl rfl
theorem dksX0_init_6 : cX0_init.data.toList.drop 140 = dktX0_init_6 := dk_seg dksX0_init_5 24 rfl rfl
theorem dksX0_init_7 : cX0_init.data.toList.drop 163 = dktX0_init_7 := dk_seg dksX0_init_6 23 rfl rfl
theorem dksX0_init_8 : cX0_init.data.toList.drop 185 = dktX0_init_8 := dk_seg dksX0_init_7 22 rfl rfl
theorem dksX0_init_9 : cX0_init.data.toList.drop 208 = dktX0_init_9 := dk_seg dksX0_init_8 23 rfl rfl
theorem dksX0_init_10 : cX0_init.data.toList.drop 232 = dktX0_init_10 := dk_seg dksX0_init_9 24 rfl rfl
theorem dksX0_init_11 : cX0_init.data.toList.drop 256 = dktX0_init_11 := dk_seg dksX0_init_10 24 rfl rfl
theorem dksX0_init_12 : cX0_init.data.toList.drop 280 = dktX0_init_12 := dk_seg dksX0_init_11 24 rfl rfl
theorem dX0_init_0 : decode cX0_init 0 = .ok (.aload_n 0, 1) := dk_42 (dk_at dksX0_init_0 0 rfl rfl)
theorem dX0_init_1 : decode cX0_init 1 = .ok (.invokespecial 5, 3) := dk_183 0 5 (dk_at dksX0_init_0 1 rfl rfl)
theorem dX0_init_4 : decode cX0_init 4 = .ok (.aload_n 0, 1) := dk_42 (dk_at dksX0_init_0 4 rfl rfl)
theorem dX0_init_5 : decode cX0_init 5 = .ok (.bipush 8, 2) := dk_16 8 (dk_at dksX0_init_0 5 rfl rfl)
theorem dX0_init_7 : decode cX0_init 7 = .ok (.anewarray 11, 3) := dk_189 0 11 (dk_at dksX0_init_0 7 rfl rfl)
theorem dX0_init_10 : decode cX0_init 10 = .ok (.dup, 1) := dk_89 (dk_at dksX0_init_0 10 rfl rfl)
theorem dX0_init_11 : decode cX0_init 11 = .ok (.iconst 0, 1) := dk_3 (dk_at dksX0_init_0 11 rfl rfl)
theorem dX0_init_12 : decode cX0_init 12 = .ok (.new 11, 3) := dk_187 0 11 (dk_at dksX0_init_0 12 rfl rfl)
theorem dX0_init_15 : decode cX0_init 15 = .ok (.dup, 1) := dk_89 (dk_at dksX0_init_0 15 rfl rfl)
theorem dX0_init_16 : decode cX0_init 16 = .ok (.invokespecial 13, 3) := dk_183 0 13 (dk_at dksX0_init_0 16 rfl rfl)
theorem dX0_init_19 : decode cX0_init 19 = .ok (.aastore, 1) := dk_83 (dk_at dksX0_init_0 19 rfl rfl)
theorem dX0_init_20 : decode cX0_init 20 = .ok (.dup, 1) := dk_89 (dk_at dksX0_init_0 20 rfl rfl)
theorem dX0_init_21 : decode cX0_init 21 = .ok (.iconst 1, 1) := dk_4 (dk_at dksX0_init_0 21 rfl rfl)
theorem dX0_init_22 : decode cX0_init 22 = .ok (.new 11, 3) := dk_187 0 11 (dk_at dksX0_init_1 0 rfl rfl)
theorem dX0_init_25 : decode cX0_init 25 = .ok (.dup, 1) := dk_89 (dk_at dksX0_init_1 3 rfl rfl)
theorem dX0_init_26 : decode cX0_init 26 = .ok (.invokespecial 13, 3) := dk_183 0 13 (dk_at dksX0_init_1 4 rfl rfl)
theorem dX0_init_29 : decode cX0_init 29 = .ok (.aastore, 1) := dk_83 (dk_at dksX0_init_1 7 rfl rfl)
theorem dX0_init_30 : decode cX0_init 30 = .ok (.dup, 1) := dk_89 (dk_at dksX0_init_1 8 rfl rfl)
theorem dX0_init_31 : decode cX0_init 31 = .ok (.iconst 2, 1) := dk_5 (dk_at dksX0_init_1 9 rfl rfl)
theorem dX0_init_32 : decode cX0_init 32 = .ok (.new 11, 3) := dk_187 0 11 (dk_at dksX0_init_1 10 rfl rfl)
theorem dX0_init_35 : decode cX0_init 35 = .ok (.dup, 1) := dk_89 (dk_at dksX0_init_1 13 rfl rfl)
theorem dX0_init_36 : decode cX0_init 36 = .ok (.invokespecial 13, 3) := dk_183 0 13 (dk_at dksX0_init_1 14 rfl rfl)
theorem dX0_init_39 : decode cX0_init 39 = .ok (.aastore, 1) := dk_83 (dk_at dksX0_init_1 17 rfl rfl)
theorem dX0_init_40 : decode cX0_init 40 = .ok (.dup, 1) := dk_89 (dk_at dksX0_init_1 18 rfl rfl)
theorem dX0_init_41 : decode cX0_init 41 = .ok (.iconst 3, 1) := dk_6 (dk_at dksX0_init_1 19 rfl rfl)
theorem dX0_init_42 : decode cX0_init 42 = .ok (.new 11, 3) := dk_187 0 11 (dk_at dksX0_init_1 20 rfl rfl)
theorem dX0_init_45 : decode cX0_init 45 = .ok (.dup, 1) := dk_89 (dk_at dksX0_init_1 23 rfl rfl)
theorem dX0_init_46 : decode cX0_init 46 = .ok (.invokespecial 13, 3) := dk_183 0 13 (dk_at dksX0_init_2 0 rfl rfl)
theorem dX0_init_49 : decode cX0_init 49 = .ok (.aastore, 1) := dk_83 (dk_at dksX0_init_2 3 rfl rfl)
theorem dX0_init_50 : decode cX0_init 50 = .ok (.dup, 1) := dk_89 (dk_at dksX0_init_2 4 rfl rfl)
theorem dX0_init_51 : decode cX0_init 51 = .ok (.iconst 4, 1) := dk_7 (dk_at dksX0_init_2 5 rfl rfl)
theorem dX0_init_52 : decode cX0_init 52 = .ok (.new 11, 3) := dk_187 0 11 (dk_at dksX0_init_2 6 rfl rfl)
theorem dX0_init_55 : decode cX0_init 55 = .ok (.dup, 1) := dk_89 (dk_at dksX0_init_2 9 rfl rfl)
theorem dX0_init_56 : decode cX0_init 56 = .ok (.invokespecial 13, 3) := dk_183 0 13 (dk_at dksX0_init_2 10 rfl rfl)
theorem dX0_init_59 : decode cX0_init 59 = .ok (.aastore, 1) := dk_83 (dk_at dksX0_init_2 13 rfl rfl)
theorem dX0_init_60 : decode cX0_init 60 = .ok (.dup, 1) := dk_89 (dk_at dksX0_init_2 14 rfl rfl)
theorem dX0_init_61 : decode cX0_init 61 = .ok (.iconst 5, 1) := dk_8 (dk_at dksX0_init_2 15 rfl rfl)
theorem dX0_init_62 : decode cX0_init 62 = .ok (.new 11, 3) := dk_187 0 11 (dk_at dksX0_init_2 16 rfl rfl)
theorem dX0_init_65 : decode cX0_init 65 = .ok (.dup, 1) := dk_89 (dk_at dksX0_init_2 19 rfl rfl)
theorem dX0_init_66 : decode cX0_init 66 = .ok (.invokespecial 13, 3) := dk_183 0 13 (dk_at dksX0_init_2 20 rfl rfl)
theorem dX0_init_69 : decode cX0_init 69 = .ok (.aastore, 1) := dk_83 (dk_at dksX0_init_2 23 rfl rfl)
theorem dX0_init_70 : decode cX0_init 70 = .ok (.dup, 1) := dk_89 (dk_at dksX0_init_3 0 rfl rfl)
theorem dX0_init_71 : decode cX0_init 71 = .ok (.bipush 6, 2) := dk_16 6 (dk_at dksX0_init_3 1 rfl rfl)
theorem dX0_init_73 : decode cX0_init 73 = .ok (.new 11, 3) := dk_187 0 11 (dk_at dksX0_init_3 3 rfl rfl)
theorem dX0_init_76 : decode cX0_init 76 = .ok (.dup, 1) := dk_89 (dk_at dksX0_init_3 6 rfl rfl)
theorem dX0_init_77 : decode cX0_init 77 = .ok (.invokespecial 13, 3) := dk_183 0 13 (dk_at dksX0_init_3 7 rfl rfl)
theorem dX0_init_80 : decode cX0_init 80 = .ok (.aastore, 1) := dk_83 (dk_at dksX0_init_3 10 rfl rfl)
theorem dX0_init_81 : decode cX0_init 81 = .ok (.dup, 1) := dk_89 (dk_at dksX0_init_3 11 rfl rfl)
theorem dX0_init_82 : decode cX0_init 82 = .ok (.bipush 7, 2) := dk_16 7 (dk_at dksX0_init_3 12 rfl rfl)
theorem dX0_init_84 : decode cX0_init 84 = .ok (.new 11, 3) := dk_187 0 11 (dk_at dksX0_init_3 14 rfl rfl)
theorem dX0_init_87 : decode cX0_init 87 = .ok (.dup, 1) := dk_89 (dk_at dksX0_init_3 17 rfl rfl)
theorem dX0_init_88 : decode cX0_init 88 = .ok (.invokespecial 13, 3) := dk_183 0 13 (dk_at dksX0_init_3 18 rfl rfl)
theorem dX0_init_91 : decode cX0_init 91 = .ok (.aastore, 1) := dk_83 (dk_at dksX0_init_3 21 rfl rfl)
theorem dX0_init_92 : decode cX0_init 92 = .ok (.putfield 14, 3) := dk_181 0 14 (dk_at dksX0_init_4 0 rfl rfl)
theorem dX0_init_95 : decode cX0_init 95 = .ok (.aload_n 0, 1) := dk_42 (dk_at dksX0_init_4 3 rfl rfl)
theorem dX0_init_96 : decode cX0_init 96 = .ok (.bipush 8, 2) := dk_16 8 (dk_at dksX0_init_4 4 rfl rfl)
theorem dX0_init_98 : decode cX0_init 98 = .ok (.newarray .int, 2) := dk_188_10 (dk_at dksX0_init_4 6 rfl rfl)
theorem dX0_init_100 : decode cX0_init 100 = .ok (.putfield 20, 3) := dk_181 0 20 (dk_at dksX0_init_4 8 rfl rfl)
theorem dX0_init_103 : decode cX0_init 103 = .ok (.aload_n 0, 1) := dk_42 (dk_at dksX0_init_4 11 rfl rfl)
theorem dX0_init_104 : decode cX0_init 104 = .ok (.iconst 4, 1) := dk_7 (dk_at dksX0_init_4 12 rfl rfl)
theorem dX0_init_105 : decode cX0_init 105 = .ok (.newarray .int, 2) := dk_188_10 (dk_at dksX0_init_4 13 rfl rfl)
theorem dX0_init_107 : decode cX0_init 107 = .ok (.dup, 1) := dk_89 (dk_at dksX0_init_4 15 rfl rfl)
theorem dX0_init_108 : decode cX0_init 108 = .ok (.iconst 0, 1) := dk_3 (dk_at dksX0_init_4 16 rfl rfl)
theorem dX0_init_109 : decode cX0_init 109 = .ok (.bipush 9, 2) := dk_16 9 (dk_at dksX0_init_4 17 rfl rfl)
theorem dX0_init_111 : decode cX0_init 111 = .ok (.iastore, 1) := dk_79 (dk_at dksX0_init_4 19 rfl rfl)
theorem dX0_init_112 : decode cX0_init 112 = .ok (.dup, 1) := dk_89 (dk_at dksX0_init_4 20 rfl rfl)
theorem dX0_init_113 : decode cX0_init 113 = .ok (.iconst 1, 1) := dk_4 (dk_at dksX0_init_4 21 rfl rfl)
theorem dX0_init_114 : decode cX0_init 114 = .ok (.iconst 0, 1) := dk_3 (dk_at dksX0_init_4 22 rfl rfl)
theorem dX0_init_115 : decode cX0_init 115 = .ok (.iastore, 1) := dk_79 (dk_at dksX0_init_4 23 rfl rfl)
theorem dX0_init_116 : decode cX0_init 116 = .ok (.dup, 1) := dk_89 (dk_at dksX0_init_5 0 rfl rfl)
theorem dX0_init_117 : decode cX0_init 117 = .ok (.iconst 2, 1) := dk_5 (dk_at dksX0_init_5 1 rfl rfl)
theorem dX0_init_118 : decode cX0_init 118 = .ok (.sipush 999, 3) := dk_17 3 231 (dk_at dksX0_init_5 2 rfl rfl)
theorem dX0_init_121 : decode cX0_init 121 = .ok (.iastore, 1) := dk_79 (dk_at dksX0_init_5 5 rfl rfl)
theorem dX0_init_122 : decode cX0_init 122 = .ok (.dup, 1) := dk_89 (dk_at dksX0_init_5 6 rfl rfl)
theorem dX0_init_123 : decode cX0_init 123 = .ok (.iconst 3, 1) := dk_6 (dk_at dksX0_init_5 7 rfl rfl)
theorem dX0_init_124 : decode cX0_init 124 = .ok (.bipush 6, 2) := dk_16 6 (dk_at dksX0_init_5 8 rfl rfl)
theorem dX0_init_126 : decode cX0_init 126 = .ok (.iastore, 1) := dk_79 (dk_at dksX0_init_5 10 rfl rfl)
theorem dX0_init_127 : decode cX0_init 127 = .ok (.putfield 24, 3) := dk_181 0 24 (dk_at dksX0_init_5 11 rfl rfl)
theorem dX0_init_130 : decode cX0_init 130 = .ok (.aload_n 0, 1) := dk_42 (dk_at dksX0_init_5 14 rfl rfl)
theorem dX0_init_131 : decode cX0_init 131 = .ok (.iconst 1, 1) := dk_4 (dk_at dksX0_init_5 15 rfl rfl)
theorem dX0_init_132 : decode cX0_init 132 = .ok (.putfield 27, 3) := dk_181 0 27 (dk_at dksX0_init_5 16 rfl rfl)
theorem dX0_init_135 : decode cX0_init 135 = .ok (.aload_n 0, 1) := dk_42 (dk_at dksX0_init_5 19 rfl rfl)
theorem dX0_init_136 : decode cX0_init 136 = .ok (.new 31, 3) := dk_187 0 31 (dk_at dksX0_init_5 20 rfl rfl)
theorem dX0_init_139 : decode cX0_init 139 = .ok (.dup, 1) := dk_89 (dk_at dksX0_init_5 23 rfl rfl)
theorem dX0_init_140 : decode cX0_init 140 = .ok (.invokespecial 33, 3) := dk_183 0 33 (dk_at dksX0_init_6 0 rfl rfl)
theorem dX0_init_143 : decode cX0_init 143 = .ok (.putfield 34, 3) := dk_181 0 34 (dk_at dksX0_init_6 3 rfl rfl)
theorem dX0_init_146 : decode cX0_init 146 = .ok (.aload_n 0, 1) := dk_42 (dk_at dksX0_init_6 6 rfl rfl)
theorem dX0_init_147 : decode cX0_init 147 = .ok (.new 38, 3) := dk_187 0 38 (dk_at dksX0_init_6 7 rfl rfl)
theorem dX0_init_150 : decode cX0_init 150 = .ok (.dup, 1) := dk_89 (dk_at dksX0_init_6 10 rfl rfl)
theorem dX0_init_151 : decode cX0_init 151 = .ok (.invokespecial 40, 3) := dk_183 0 40 (dk_at dksX0_init_6 11 rfl rfl)
theorem dX0_init_154 : decode cX0_init 154 = .ok (.putfield 41, 3) := dk_181 0 41 (dk_at dksX0_init_6 14 rfl rfl)
theorem dX0_init_157 : decode cX0_init 157 = .ok (.aload_n 0, 1) := dk_42 (dk_at dksX0_init_6 17 rfl rfl)
theorem dX0_init_158 : decode cX0_init 158 = .ok (.bipush 8, 2) := dk_16 8 (dk_at dksX0_init_6 18 rfl rfl)
theorem dX0_init_160 : decode cX0_init 160 = .ok (.sipush 256, 3) := dk_17 1 0 (dk_at dksX0_init_6 20 rfl rfl)
theorem dX0_init_163 : decode cX0_init 163 = .ok (.multianewarray 45 2, 4) := by decide +kernel
theorem dX0_init_167 : decode cX0_init 167 = .ok (.putfield 47, 3) := dk_181 0 47 (dk_at dksX0_init_7 4 rfl rfl)
theorem dX0_init_170 : decode cX0_init 170 = .ok (.aload_n 0, 1) := dk_42 (dk_at dksX0_init_7 7 rfl rfl)
theorem dX0_init_171 : decode cX0_init 171 = .ok (.sipush 256, 3) := dk_17 1 0 (dk_at dksX0_init_7 8 rfl rfl)
theorem dX0_init_174 : decode cX0_init 174 = .ok (.newarray .int, 2) := dk_188_10 (dk_at dksX0_init_7 11 rfl rfl)
theorem dX0_init_176 : decode cX0_init 176 = .ok (.putfield 50, 3) := dk_181 0 50 (dk_at dksX0_init_7 13 rfl rfl)
theorem dX0_init_179 : decode cX0_init 179 = .ok (.aload_n 0, 1) := dk_42 (dk_at dksX0_init_7 16 rfl rfl)
theorem dX0_init_180 : decode cX0_init 180 = .ok (.sipush 256, 3) := dk_17 1 0 (dk_at dksX0_init_7 17 rfl rfl)
theorem dX0_init_183 : decode cX0_init 183 = .ok (.newarray .int, 2) := dk_188_10 (dk_at dksX0_init_7 20 rfl rfl)
theorem dX0_init_185 : decode cX0_init 185 = .ok (.putfield 53, 3) := dk_181 0 53 (dk_at dksX0_init_8 0 rfl rfl)
theorem dX0_init_188 : decode cX0_init 188 = .ok (.aload_n 0, 1) := dk_42 (dk_at dksX0_init_8 3 rfl rfl)
theorem dX0_init_189 : decode cX0_init 189 = .ok (.sipush 256, 3) := dk_17 1 0 (dk_at dksX0_init_8 4 rfl rfl)
theorem dX0_init_192 : decode cX0_init 192 = .ok (.newarray .int, 2) := dk_188_10 (dk_at dksX0_init_8 7 rfl rfl)
theorem dX0_init_194 : decode cX0_init 194 = .ok (.putfield 56, 3) := dk_181 0 56 (dk_at dksX0_init_8 9 rfl rfl)
theorem dX0_init_197 : decode cX0_init 197 = .ok (.aload_n 0, 1) := dk_42 (dk_at dksX0_init_8 12 rfl rfl)
theorem dX0_init_198 : decode cX0_init 198 = .ok (.bipush 8, 2) := dk_16 8 (dk_at dksX0_init_8 13 rfl rfl)
theorem dX0_init_200 : decode cX0_init 200 = .ok (.newarray .int, 2) := dk_188_10 (dk_at dksX0_init_8 15 rfl rfl)
theorem dX0_init_202 : decode cX0_init 202 = .ok (.putfield 59, 3) := dk_181 0 59 (dk_at dksX0_init_8 17 rfl rfl)
theorem dX0_init_205 : decode cX0_init 205 = .ok (.aload_n 0, 1) := dk_42 (dk_at dksX0_init_8 20 rfl rfl)
theorem dX0_init_206 : decode cX0_init 206 = .ok (.bipush 8, 2) := dk_16 8 (dk_at dksX0_init_8 21 rfl rfl)
theorem dX0_init_208 : decode cX0_init 208 = .ok (.newarray .int, 2) := dk_188_10 (dk_at dksX0_init_9 0 rfl rfl)
theorem dX0_init_210 : decode cX0_init 210 = .ok (.putfield 62, 3) := dk_181 0 62 (dk_at dksX0_init_9 2 rfl rfl)
theorem dX0_init_213 : decode cX0_init 213 = .ok (.aload_n 0, 1) := dk_42 (dk_at dksX0_init_9 5 rfl rfl)
theorem dX0_init_214 : decode cX0_init 214 = .ok (.new 65, 3) := dk_187 0 65 (dk_at dksX0_init_9 6 rfl rfl)
theorem dX0_init_217 : decode cX0_init 217 = .ok (.dup, 1) := dk_89 (dk_at dksX0_init_9 9 rfl rfl)
theorem dX0_init_218 : decode cX0_init 218 = .ok (.invokespecial 67, 3) := dk_183 0 67 (dk_at dksX0_init_9 10 rfl rfl)
theorem dX0_init_221 : decode cX0_init 221 = .ok (.putfield 68, 3) := dk_181 0 68 (dk_at dksX0_init_9 13 rfl rfl)
theorem dX0_init_224 : decode cX0_init 224 = .ok (.aload_n 0, 1) := dk_42 (dk_at dksX0_init_9 16 rfl rfl)
theorem dX0_init_225 : decode cX0_init 225 = .ok (.new 65, 3) := dk_187 0 65 (dk_at dksX0_init_9 17 rfl rfl)
theorem dX0_init_228 : decode cX0_init 228 = .ok (.dup, 1) := dk_89 (dk_at dksX0_init_9 20 rfl rfl)
theorem dX0_init_229 : decode cX0_init 229 = .ok (.invokespecial 67, 3) := dk_183 0 67 (dk_at dksX0_init_9 21 rfl rfl)
theorem dX0_init_232 : decode cX0_init 232 = .ok (.putfield 72, 3) := dk_181 0 72 (dk_at dksX0_init_10 0 rfl rfl)
theorem dX0_init_235 : decode cX0_init 235 = .ok (.aload_n 0, 1) := dk_42 (dk_at dksX0_init_10 3 rfl rfl)
theorem dX0_init_236 : decode cX0_init 236 = .ok (.iconst 4, 1) := dk_7 (dk_at dksX0_init_10 4 rfl rfl)
theorem dX0_init_237 : decode cX0_init 237 = .ok (.anewarray 75, 3) := dk_189 0 75 (dk_at dksX0_init_10 5 rfl rfl)
theorem dX0_init_240 : decode cX0_init 240 = .ok (.dup, 1) := dk_89 (dk_at dksX0_init_10 8 rfl rfl)
theorem dX0_init_241 : decode cX0_init 241 = .ok (.iconst 0, 1) := dk_3 (dk_at dksX0_init_10 9 rfl rfl)
theorem dX0_init_242 : decode cX0_init 242 = .ok (.new 75, 3) := dk_187 0 75 (dk_at dksX0_init_10 10 rfl rfl)
theorem dX0_init_245 : decode cX0_init 245 = .ok (.dup, 1) := dk_89 (dk_at dksX0_init_10 13 rfl rfl)
theorem dX0_init_246 : decode cX0_init 246 = .ok (.invokespecial 77, 3) := dk_183 0 77 (dk_at dksX0_init_10 14 rfl rfl)
theorem dX0_init_249 : decode cX0_init 249 = .ok (.aastore, 1) := dk_83 (dk_at dksX0_init_10 17 rfl rfl)
theorem dX0_init_250 : decode cX0_init 250 = .ok (.dup, 1) := dk_89 (dk_at dksX0_init_10 18 rfl rfl)
theorem dX0_init_251 : decode cX0_init 251 = .ok (.iconst 1, 1) := dk_4 (dk_at dksX0_init_10 19 rfl rfl)
theorem dX0_init_252 : decode cX0_init 252 = .ok (.new 75, 3) := dk_187 0 75 (dk_at dksX0_init_10 20 rfl rfl)
theorem dX0_init_255 : decode cX0_init 255 = .ok (.dup, 1) := dk_89 (dk_at dksX0_init_10 23 rfl rfl)
theorem dX0_init_256 : decode cX0_init 256 = .ok (.invokespecial 77, 3) := dk_183 0 77 (dk_at dksX0_init_11 0 rfl rfl)
theorem dX0_init_259 : decode cX0_init 259 = .ok (.aastore, 1) := dk_83 (dk_at dksX0_init_11 3 rfl rfl)
theorem dX0_init_260 : decode cX0_init 260 = .ok (.dup, 1) := dk_89 (dk_at dksX0_init_11 4 rfl rfl)
theorem dX0_init_261 : decode cX0_init 261 = .ok (.iconst 2, 1) := dk_5 (dk_at dksX0_init_11 5 rfl rfl)
theorem dX0_init_262 : decode cX0_init 262 = .ok (.new 75, 3) := dk_187 0 75 (dk_at dksX0_init_11 6 rfl rfl)
theorem dX0_init_265 : decode cX0_init 265 = .ok (.dup, 1) := dk_89 (dk_at dksX0_init_11 9 rfl rfl)
theorem dX0_init_266 : decode cX0_init 266 = .ok (.invokespecial 77, 3) := dk_183 0 77 (dk_at dksX0_init_11 10 rfl rfl)
theorem dX0_init_269 : decode cX0_init 269 = .ok (.aastore, 1) := dk_83 (dk_at dksX0_init_11 13 rfl rfl)
theorem dX0_init_270 : decode cX0_init 270 = .ok (.dup, 1) := dk_89 (dk_at dksX0_init_11 14 rfl rfl)
theorem dX0_init_271 : decode cX0_init 271 = .ok (.iconst 3, 1) := dk_6 (dk_at dksX0_init_11 15 rfl rfl)
theorem dX0_init_272 : decode cX0_init 272 = .ok (.new 75, 3) := dk_187 0 75 (dk_at dksX0_init_11 16 rfl rfl)
theorem dX0_init_275 : decode cX0_init 275 = .ok (.dup, 1) := dk_89 (dk_at dksX0_init_11 19 rfl rfl)
theorem dX0_init_276 : decode cX0_init 276 = .ok (.invokespecial 77, 3) := dk_183 0 77 (dk_at dksX0_init_11 20 rfl rfl)
theorem dX0_init_279 : decode cX0_init 279 = .ok (.aastore, 1) := dk_83 (dk_at dksX0_init_11 23 rfl rfl)
theorem dX0_init_280 : decode cX0_init 280 = .ok (.putfield 78, 3) := dk_181 0 78 (dk_at dksX0_init_12 0 rfl rfl)
theorem dX0_init_283 : decode cX0_init 283 = .ok (.return_, 1) := dk_177 (dk_at dksX0_init_12 3 rfl rfl)
abbrev cX0_person : ByteArray := prog_1_method_10_code
def yX0_person : MethodName := ⟨RX0, "person", "(III)I"⟩
def dkwX0_person_2 : List UInt8 := [28, 46, 54, 4, 42, 180, 0, 14, 27, 50, 180, 0, 104, 28, 29, 79, 42, 4, 181, 0, 27, 21, 4, 172]
abbrev dktX0_person_2 : List UInt8 := dkwX0_person_2 ++ []
def dkwX0_person_1 : List UInt8 := [178, 0, 101, 28, 46, 133, 184, 0, 89, 154, 0, 6, 16, 254, 172, 42, 180, 0, 14, 27, 50, 180, 0, 104]
abbrev dktX0_person_1 : List UInt8 := dkwX0_person_1 ++ dktX0_person_2
def dkwX0_person_0 : List UInt8 := [27, 184, 0, 95, 153, 0, 30, 28, 133, 9, 20, 0, 99, 184, 0, 89, 153, 0, 18, 29, 133, 9]
abbrev dktX0_person_0 : List UInt8 := dkwX0_person_0 ++ dktX0_person_1
theorem dksX0_person_0 : cX0_person.data.toList.drop 0 = dktX0_person_0 := by decide +kernel
theorem dksX0_person_1 : cX0_person.data.toList.drop 22 = dktX0_person_1 := dk_seg dksX0_person_0 22 rfl rfl
theorem dksX0_person_2 : cX0_person.data.toList.drop 46 = dktX0_person_2 := dk_seg dksX0_person_1 24 rfl rfl
theorem dX0_person_0 : decode cX0_person 0 = .ok (.iload_n 1, 1) := dk_27 (dk_at dksX0_person_0 0 rfl rfl)
theorem dX0_person_1 : decode cX0_person 1 = .ok (.invokestatic 95, 3) := dk_184 0 95 (dk_at dksX0_person_0 1 rfl rfl)
theorem dX0_person_4 : decode cX0_person 4 = .ok (.ifCond .eq 30, 3) := dk_153 0 30 (dk_at dksX0_person_0 4 rfl rfl)
theorem dX0_person_7 : decode cX0_person 7 = .ok (.iload_n 2, 1) := dk_28 (dk_at dksX0_person_0 7 rfl rfl)
theorem dX0_person_8 : decode cX0_person 8 = .ok (.i2l, 1) := dk_133 (dk_at dksX0_person_0 8 rfl rfl)
theorem dX0_person_9 : decode cX0_person 9 = .ok (.lconst 0, 1) := dk_9 (dk_at dksX0_person_0 9 rfl rfl)
theorem dX0_person_10 : decode cX0_person 10 = .ok (.ldc2_w 99, 3) := dk_20 0 99 (dk_at dksX0_person_0 10 rfl rfl)
theorem dX0_person_13 : decode cX0_person 13 = .ok (.invokestatic 89, 3) := dk_184 0 89 (dk_at dksX0_person_0 13 rfl rfl)
theorem dX0_person_16 : decode cX0_person 16 = .ok (.ifCond .eq 18, 3) := dk_153 0 18 (dk_at dksX0_person_0 16 rfl rfl)
theorem dX0_person_19 : decode cX0_person 19 = .ok (.iload_n 3, 1) := dk_29 (dk_at dksX0_person_0 19 rfl rfl)
theorem dX0_person_20 : decode cX0_person 20 = .ok (.i2l, 1) := dk_133 (dk_at dksX0_person_0 20 rfl rfl)
theorem dX0_person_21 : decode cX0_person 21 = .ok (.lconst 0, 1) := dk_9 (dk_at dksX0_person_0 21 rfl rfl)
theorem dX0_person_22 : decode cX0_person 22 = .ok (.getstatic 101, 3) := dk_178 0 101 (dk_at dksX0_person_1 0 rfl rfl)
theorem dX0_person_25 : decode cX0_person 25 = .ok (.iload_n 2, 1) := dk_28 (dk_at dksX0_person_1 3 rfl rfl)
theorem dX0_person_26 : decode cX0_person 26 = .ok (.iaload, 1) := dk_46 (dk_at dksX0_person_1 4 rfl rfl)
theorem dX0_person_27 : decode cX0_person 27 = .ok (.i2l, 1) := dk_133 (dk_at dksX0_person_1 5 rfl rfl)
theorem dX0_person_28 : decode cX0_person 28 = .ok (.invokestatic 89, 3) := dk_184 0 89 (dk_at dksX0_person_1 6 rfl rfl)
theorem dX0_person_31 : decode cX0_person 31 = .ok (.ifCond .ne 6, 3) := dk_154 0 6 (dk_at dksX0_person_1 9 rfl rfl)
theorem dX0_person_34 : decode cX0_person 34 = .ok (.bipush (-2), 2) := dk_16 254 (dk_at dksX0_person_1 12 rfl rfl)
theorem dX0_person_36 : decode cX0_person 36 = .ok (.ireturn, 1) := dk_172 (dk_at dksX0_person_1 14 rfl rfl)
theorem dX0_person_37 : decode cX0_person 37 = .ok (.aload_n 0, 1) := dk_42 (dk_at dksX0_person_1 15 rfl rfl)
theorem dX0_person_38 : decode cX0_person 38 = .ok (.getfield 14, 3) := dk_180 0 14 (dk_at dksX0_person_1 16 rfl rfl)
theorem dX0_person_41 : decode cX0_person 41 = .ok (.iload_n 1, 1) := dk_27 (dk_at dksX0_person_1 19 rfl rfl)
theorem dX0_person_42 : decode cX0_person 42 = .ok (.aaload, 1) := dk_50 (dk_at dksX0_person_1 20 rfl rfl)
theorem dX0_person_43 : decode cX0_person 43 = .ok (.getfield 104, 3) := dk_180 0 104 (dk_at dksX0_person_1 21 rfl rfl)
theorem dX0_person_46 : decode cX0_person 46 = .ok (.iload_n 2, 1) := dk_28 (dk_at dksX0_person_2 0 rfl rfl)
theorem dX0_person_47 : decode cX0_person 47 = .ok (.iaload, 1) := dk_46 (dk_at dksX0_person_2 1 rfl rfl)
theorem dX0_person_48 : decode cX0_person 48 = .ok (.istore 4, 2) := dk_54 4 (dk_at dksX0_person_2 2 rfl rfl)
theorem dX0_person_50 : decode cX0_person 50 = .ok (.aload_n 0, 1) := dk_42 (dk_at dksX0_person_2 4 rfl rfl)
theorem dX0_person_51 : decode cX0_person 51 = .ok (.getfield 14, 3) := dk_180 0 14 (dk_at dksX0_person_2 5 rfl rfl)
theorem dX0_person_54 : decode cX0_person 54 = .ok (.iload_n 1, 1) := dk_27 (dk_at dksX0_person_2 8 rfl rfl)
theorem dX0_person_55 : decode cX0_person 55 = .ok (.aaload, 1) := dk_50 (dk_at dksX0_person_2 9 rfl rfl)
theorem dX0_person_56 : decode cX0_person 56 = .ok (.getfield 104, 3) := dk_180 0 104 (dk_at dksX0_person_2 10 rfl rfl)
theorem dX0_person_59 : decode cX0_person 59 = .ok (.iload_n 2, 1) := dk_28 (dk_at dksX0_person_2 13 rfl rfl)
theorem dX0_person_60 : decode cX0_person 60 = .ok (.iload_n 3, 1) := dk_29 (dk_at dksX0_person_2 14 rfl rfl)
theorem dX0_person_61 : decode cX0_person 61 = .ok (.iastore, 1) := dk_79 (dk_at dksX0_person_2 15 rfl rfl)
theorem dX0_person_62 : decode cX0_person 62 = .ok (.aload_n 0, 1) := dk_42 (dk_at dksX0_person_2 16 rfl rfl)
theorem dX0_person_63 : decode cX0_person 63 = .ok (.iconst 1, 1) := dk_4 (dk_at dksX0_person_2 17 rfl rfl)
theorem dX0_person_64 : decode cX0_person 64 = .ok (.putfield 27, 3) := dk_181 0 27 (dk_at dksX0_person_2 18 rfl rfl)
theorem dX0_person_67 : decode cX0_person 67 = .ok (.iload 4, 2) := dk_21 4 (dk_at dksX0_person_2 21 rfl rfl)
theorem dX0_person_69 : decode cX0_person 69 = .ok (.ireturn, 1) := dk_172 (dk_at dksX0_person_2 23 rfl rfl)
abbrev cX0_isPerson : ByteArray := prog_1_method_9_code
def yX0_isPerson : MethodName := ⟨RX0, "isPerson", "(I)Z"⟩
def dkwX0_isPerson_0 : List UInt8 := [26, 133, 9, 20, 0, 93, 184, 0, 89, 172]
abbrev dktX0_isPerson_0 : List UInt8 := dkwX0_isPerson_0 ++ []
theorem dksX0_isPerson_0 : cX0_isPerson.data.toList.drop 0 = dktX0_isPerson_0 := by decide +kernel
theorem dX0_isPerson_0 : decode cX0_isPerson 0 = .ok (.iload_n 0, 1) := dk_26 (dk_at dksX0_isPerson_0 0 rfl rfl)
theorem dX0_isPerson_1 : decode cX0_isPerson 1 = .ok (.i2l, 1) := dk_133 (dk_at dksX0_isPerson_0 1 rfl rfl)
theorem dX0_isPerson_2 : decode cX0_isPerson 2 = .ok (.lconst 0, 1) := dk_9 (dk_at dksX0_isPerson_0 2 rfl rfl)
theorem dX0_isPerson_3 : decode cX0_isPerson 3 = .ok (.ldc2_w 93, 3) := dk_20 0 93 (dk_at dksX0_isPerson_0 3 rfl rfl)
theorem dX0_isPerson_6 : decode cX0_isPerson 6 = .ok (.invokestatic 89, 3) := dk_184 0 89 (dk_at dksX0_isPerson_0 6 rfl rfl)
theorem dX0_isPerson_9 : decode cX0_isPerson 9 = .ok (.ireturn, 1) := dk_172 (dk_at dksX0_isPerson_0 9 rfl rfl)
abbrev cX0_in : ByteArray := prog_1_method_2_code
def yX0_in : MethodName := ⟨RX0, "in", "(JJJ)Z"⟩
def dkwX0_in_0 : List UInt8 := [30, 32, 148, 155, 0, 14, 30, 22, 4, 148, 157, 0, 7, 4, 167, 0, 4, 3, 172]
abbrev dktX0_in_0 : List UInt8 := dkwX0_in_0 ++ []
theorem dksX0_in_0 : cX0_in.data.toList.drop 0 = dktX0_in_0 := by decide +kernel
theorem dX0_in_0 : decode cX0_in 0 = .ok (.lload_n 0, 1) := dk_30 (dk_at dksX0_in_0 0 rfl rfl)
theorem dX0_in_1 : decode cX0_in 1 = .ok (.lload_n 2, 1) := dk_32 (dk_at dksX0_in_0 1 rfl rfl)
theorem dX0_in_2 : decode cX0_in 2 = .ok (.lcmp, 1) := dk_148 (dk_at dksX0_in_0 2 rfl rfl)
theorem dX0_in_3 : decode cX0_in 3 = .ok (.ifCond .lt 14, 3) := dk_155 0 14 (dk_at dksX0_in_0 3 rfl rfl)
theorem dX0_in_6 : decode cX0_in 6 = .ok (.lload_n 0, 1) := dk_30 (dk_at dksX0_in_0 6 rfl rfl)
theorem dX0_in_7 : decode cX0_in 7 = .ok (.lload 4, 2) := dk_22 4 (dk_at dksX0_in_0 7 rfl rfl)
theorem dX0_in_9 : decode cX0_in 9 = .ok (.lcmp, 1) := dk_148 (dk_at dksX0_in_0 9 rfl rfl)
theorem dX0_in_10 : decode cX0_in 10 = .ok (.ifCond .gt 7, 3) := dk_157 0 7 (dk_at dksX0_in_0 10 rfl rfl)
theorem dX0_in_13 : decode cX0_in 13 = .ok (.iconst 1, 1) := dk_4 (dk_at dksX0_in_0 13 rfl rfl)
theorem dX0_in_14 : decode cX0_in 14 = .ok (.goto 4, 3) := dk_167 0 4 (dk_at dksX0_in_0 14 rfl rfl)
theorem dX0_in_17 : decode cX0_in 17 = .ok (.iconst 0, 1) := dk_3 (dk_at dksX0_in_0 17 rfl rfl)
theorem dX0_in_18 : decode cX0_in 18 = .ok (.ireturn, 1) := dk_172 (dk_at dksX0_in_0 18 rfl rfl)
abbrev cX0_weather : ByteArray := prog_1_method_11_code
def yX0_weather : MethodName := ⟨RX0, "weather", "(II)I"⟩
def dkwX0_weather_1 : List UInt8 := [42, 180, 0, 20, 27, 28, 79, 42, 4, 181, 0, 27, 29, 172]
abbrev dktX0_weather_1 : List UInt8 := dkwX0_weather_1 ++ []
def dkwX0_weather_0 : List UInt8 := [27, 184, 0, 107, 153, 0, 10, 28, 184, 0, 110, 154, 0, 6, 16, 254, 172, 42, 180, 0, 20, 27, 46, 62]
abbrev dktX0_weather_0 : List UInt8 := dkwX0_weather_0 ++ dktX0_weather_1
theorem dksX0_weather_0 : cX0_weather.data.toList.drop 0 = dktX0_weather_0 := by decide +kernel
theorem dksX0_weather_1 : cX0_weather.data.toList.drop 24 = dktX0_weather_1 := dk_seg dksX0_weather_0 24 rfl rfl
theorem dX0_weather_0 : decode cX0_weather 0 = .ok (.iload_n 1, 1) := dk_27 (dk_at dksX0_weather_0 0 rfl rfl)
theorem dX0_weather_1 : decode cX0_weather 1 = .ok (.invokestatic 107, 3) := dk_184 0 107 (dk_at dksX0_weather_0 1 rfl rfl)
theorem dX0_weather_4 : decode cX0_weather 4 = .ok (.ifCond .eq 10, 3) := dk_153 0 10 (dk_at dksX0_weather_0 4 rfl rfl)
theorem dX0_weather_7 : decode cX0_weather 7 = .ok (.iload_n 2, 1) := dk_28 (dk_at dksX0_weather_0 7 rfl rfl)
theorem dX0_weather_8 : decode cX0_weather 8 = .ok (.invokestatic 110, 3) := dk_184 0 110 (dk_at dksX0_weather_0 8 rfl rfl)
theorem dX0_weather_11 : decode cX0_weather 11 = .ok (.ifCond .ne 6, 3) := dk_154 0 6 (dk_at dksX0_weather_0 11 rfl rfl)
theorem dX0_weather_14 : decode cX0_weather 14 = .ok (.bipush (-2), 2) := dk_16 254 (dk_at dksX0_weather_0 14 rfl rfl)
theorem dX0_weather_16 : decode cX0_weather 16 = .ok (.ireturn, 1) := dk_172 (dk_at dksX0_weather_0 16 rfl rfl)
theorem dX0_weather_17 : decode cX0_weather 17 = .ok (.aload_n 0, 1) := dk_42 (dk_at dksX0_weather_0 17 rfl rfl)
theorem dX0_weather_18 : decode cX0_weather 18 = .ok (.getfield 20, 3) := dk_180 0 20 (dk_at dksX0_weather_0 18 rfl rfl)
theorem dX0_weather_21 : decode cX0_weather 21 = .ok (.iload_n 1, 1) := dk_27 (dk_at dksX0_weather_0 21 rfl rfl)
theorem dX0_weather_22 : decode cX0_weather 22 = .ok (.iaload, 1) := dk_46 (dk_at dksX0_weather_0 22 rfl rfl)
theorem dX0_weather_23 : decode cX0_weather 23 = .ok (.istore_n 3, 1) := dk_62 (dk_at dksX0_weather_0 23 rfl rfl)
theorem dX0_weather_24 : decode cX0_weather 24 = .ok (.aload_n 0, 1) := dk_42 (dk_at dksX0_weather_1 0 rfl rfl)
theorem dX0_weather_25 : decode cX0_weather 25 = .ok (.getfield 20, 3) := dk_180 0 20 (dk_at dksX0_weather_1 1 rfl rfl)
theorem dX0_weather_28 : decode cX0_weather 28 = .ok (.iload_n 1, 1) := dk_27 (dk_at dksX0_weather_1 4 rfl rfl)
theorem dX0_weather_29 : decode cX0_weather 29 = .ok (.iload_n 2, 1) := dk_28 (dk_at dksX0_weather_1 5 rfl rfl)
theorem dX0_weather_30 : decode cX0_weather 30 = .ok (.iastore, 1) := dk_79 (dk_at dksX0_weather_1 6 rfl rfl)
theorem dX0_weather_31 : decode cX0_weather 31 = .ok (.aload_n 0, 1) := dk_42 (dk_at dksX0_weather_1 7 rfl rfl)
theorem dX0_weather_32 : decode cX0_weather 32 = .ok (.iconst 1, 1) := dk_4 (dk_at dksX0_weather_1 8 rfl rfl)
theorem dX0_weather_33 : decode cX0_weather 33 = .ok (.putfield 27, 3) := dk_181 0 27 (dk_at dksX0_weather_1 9 rfl rfl)
theorem dX0_weather_36 : decode cX0_weather 36 = .ok (.iload_n 3, 1) := dk_29 (dk_at dksX0_weather_1 12 rfl rfl)
theorem dX0_weather_37 : decode cX0_weather 37 = .ok (.ireturn, 1) := dk_172 (dk_at dksX0_weather_1 13 rfl rfl)
abbrev cX0_isHour : ByteArray := prog_1_method_8_code
def yX0_isHour : MethodName := ⟨RX0, "isHour", "(I)Z"⟩
def dkwX0_isHour_0 : List UInt8 := [26, 133, 9, 20, 0, 93, 184, 0, 89, 172]
abbrev dktX0_isHour_0 : List UInt8 := dkwX0_isHour_0 ++ []
theorem dksX0_isHour_0 : cX0_isHour.data.toList.drop 0 = dktX0_isHour_0 := by decide +kernel
theorem dX0_isHour_0 : decode cX0_isHour 0 = .ok (.iload_n 0, 1) := dk_26 (dk_at dksX0_isHour_0 0 rfl rfl)
theorem dX0_isHour_1 : decode cX0_isHour 1 = .ok (.i2l, 1) := dk_133 (dk_at dksX0_isHour_0 1 rfl rfl)
theorem dX0_isHour_2 : decode cX0_isHour 2 = .ok (.lconst 0, 1) := dk_9 (dk_at dksX0_isHour_0 2 rfl rfl)
theorem dX0_isHour_3 : decode cX0_isHour 3 = .ok (.ldc2_w 93, 3) := dk_20 0 93 (dk_at dksX0_isHour_0 3 rfl rfl)
theorem dX0_isHour_6 : decode cX0_isHour 6 = .ok (.invokestatic 89, 3) := dk_184 0 89 (dk_at dksX0_isHour_0 6 rfl rfl)
theorem dX0_isHour_9 : decode cX0_isHour 9 = .ok (.ireturn, 1) := dk_172 (dk_at dksX0_isHour_0 9 rfl rfl)
abbrev cX0_isTwo : ByteArray := prog_1_method_6_code
def yX0_isTwo : MethodName := ⟨RX0, "isTwo", "(I)Z"⟩
def dkwX0_isTwo_0 : List UInt8 := [26, 133, 9, 10, 184, 0, 89, 172]
abbrev dktX0_isTwo_0 : List UInt8 := dkwX0_isTwo_0 ++ []
theorem dksX0_isTwo_0 : cX0_isTwo.data.toList.drop 0 = dktX0_isTwo_0 := by decide +kernel
theorem dX0_isTwo_0 : decode cX0_isTwo 0 = .ok (.iload_n 0, 1) := dk_26 (dk_at dksX0_isTwo_0 0 rfl rfl)
theorem dX0_isTwo_1 : decode cX0_isTwo 1 = .ok (.i2l, 1) := dk_133 (dk_at dksX0_isTwo_0 1 rfl rfl)
theorem dX0_isTwo_2 : decode cX0_isTwo 2 = .ok (.lconst 0, 1) := dk_9 (dk_at dksX0_isTwo_0 2 rfl rfl)
theorem dX0_isTwo_3 : decode cX0_isTwo 3 = .ok (.lconst 1, 1) := dk_10 (dk_at dksX0_isTwo_0 3 rfl rfl)
theorem dX0_isTwo_4 : decode cX0_isTwo 4 = .ok (.invokestatic 89, 3) := dk_184 0 89 (dk_at dksX0_isTwo_0 4 rfl rfl)
theorem dX0_isTwo_7 : decode cX0_isTwo 7 = .ok (.ireturn, 1) := dk_172 (dk_at dksX0_isTwo_0 7 rfl rfl)
abbrev cX0_set : ByteArray := prog_1_method_12_code
def yX0_set : MethodName := ⟨RX0, "set", "(II)I"⟩
def dkwX0_set_2 : List UInt8 := [181, 0, 27, 29, 172]
abbrev dktX0_set_2 : List UInt8 := dkwX0_set_2 ++ []
def dkwX0_set_1 : List UInt8 := [154, 0, 6, 16, 254, 172, 42, 180, 0, 24, 27, 46, 62, 42, 180, 0, 24, 27, 28, 79, 42, 4]
abbrev dktX0_set_1 : List UInt8 := dkwX0_set_1 ++ dktX0_set_2
def dkwX0_set_0 : List UInt8 := [27, 133, 9, 20, 0, 99, 184, 0, 89, 153, 0, 18, 28, 133, 9, 178, 0, 113, 27, 46, 133, 184, 0, 89]
abbrev dktX0_set_0 : List UInt8 := dkwX0_set_0 ++ dktX0_set_1
theorem dksX0_set_0 : cX0_set.data.toList.drop 0 = dktX0_set_0 := by decide +kernel
theorem dksX0_set_1 : cX0_set.data.toList.drop 24 = dktX0_set_1 := dk_seg dksX0_set_0 24 rfl rfl
theorem dksX0_set_2 : cX0_set.data.toList.drop 46 = dktX0_set_2 := dk_seg dksX0_set_1 22 rfl rfl
theorem dX0_set_0 : decode cX0_set 0 = .ok (.iload_n 1, 1) := dk_27 (dk_at dksX0_set_0 0 rfl rfl)
theorem dX0_set_1 : decode cX0_set 1 = .ok (.i2l, 1) := dk_133 (dk_at dksX0_set_0 1 rfl rfl)
theorem dX0_set_2 : decode cX0_set 2 = .ok (.lconst 0, 1) := dk_9 (dk_at dksX0_set_0 2 rfl rfl)
theorem dX0_set_3 : decode cX0_set 3 = .ok (.ldc2_w 99, 3) := dk_20 0 99 (dk_at dksX0_set_0 3 rfl rfl)
theorem dX0_set_6 : decode cX0_set 6 = .ok (.invokestatic 89, 3) := dk_184 0 89 (dk_at dksX0_set_0 6 rfl rfl)
theorem dX0_set_9 : decode cX0_set 9 = .ok (.ifCond .eq 18, 3) := dk_153 0 18 (dk_at dksX0_set_0 9 rfl rfl)
theorem dX0_set_12 : decode cX0_set 12 = .ok (.iload_n 2, 1) := dk_28 (dk_at dksX0_set_0 12 rfl rfl)
theorem dX0_set_13 : decode cX0_set 13 = .ok (.i2l, 1) := dk_133 (dk_at dksX0_set_0 13 rfl rfl)
theorem dX0_set_14 : decode cX0_set 14 = .ok (.lconst 0, 1) := dk_9 (dk_at dksX0_set_0 14 rfl rfl)
theorem dX0_set_15 : decode cX0_set 15 = .ok (.getstatic 113, 3) := dk_178 0 113 (dk_at dksX0_set_0 15 rfl rfl)
theorem dX0_set_18 : decode cX0_set 18 = .ok (.iload_n 1, 1) := dk_27 (dk_at dksX0_set_0 18 rfl rfl)
theorem dX0_set_19 : decode cX0_set 19 = .ok (.iaload, 1) := dk_46 (dk_at dksX0_set_0 19 rfl rfl)
theorem dX0_set_20 : decode cX0_set 20 = .ok (.i2l, 1) := dk_133 (dk_at dksX0_set_0 20 rfl rfl)
theorem dX0_set_21 : decode cX0_set 21 = .ok (.invokestatic 89, 3) := dk_184 0 89 (dk_at dksX0_set_0 21 rfl rfl)
theorem dX0_set_24 : decode cX0_set 24 = .ok (.ifCond .ne 6, 3) := dk_154 0 6 (dk_at dksX0_set_1 0 rfl rfl)
theorem dX0_set_27 : decode cX0_set 27 = .ok (.bipush (-2), 2) := dk_16 254 (dk_at dksX0_set_1 3 rfl rfl)
theorem dX0_set_29 : decode cX0_set 29 = .ok (.ireturn, 1) := dk_172 (dk_at dksX0_set_1 5 rfl rfl)
theorem dX0_set_30 : decode cX0_set 30 = .ok (.aload_n 0, 1) := dk_42 (dk_at dksX0_set_1 6 rfl rfl)
theorem dX0_set_31 : decode cX0_set 31 = .ok (.getfield 24, 3) := dk_180 0 24 (dk_at dksX0_set_1 7 rfl rfl)
theorem dX0_set_34 : decode cX0_set 34 = .ok (.iload_n 1, 1) := dk_27 (dk_at dksX0_set_1 10 rfl rfl)
theorem dX0_set_35 : decode cX0_set 35 = .ok (.iaload, 1) := dk_46 (dk_at dksX0_set_1 11 rfl rfl)
theorem dX0_set_36 : decode cX0_set 36 = .ok (.istore_n 3, 1) := dk_62 (dk_at dksX0_set_1 12 rfl rfl)
theorem dX0_set_37 : decode cX0_set 37 = .ok (.aload_n 0, 1) := dk_42 (dk_at dksX0_set_1 13 rfl rfl)
theorem dX0_set_38 : decode cX0_set 38 = .ok (.getfield 24, 3) := dk_180 0 24 (dk_at dksX0_set_1 14 rfl rfl)
theorem dX0_set_41 : decode cX0_set 41 = .ok (.iload_n 1, 1) := dk_27 (dk_at dksX0_set_1 17 rfl rfl)
theorem dX0_set_42 : decode cX0_set 42 = .ok (.iload_n 2, 1) := dk_28 (dk_at dksX0_set_1 18 rfl rfl)
theorem dX0_set_43 : decode cX0_set 43 = .ok (.iastore, 1) := dk_79 (dk_at dksX0_set_1 19 rfl rfl)
theorem dX0_set_44 : decode cX0_set 44 = .ok (.aload_n 0, 1) := dk_42 (dk_at dksX0_set_1 20 rfl rfl)
theorem dX0_set_45 : decode cX0_set 45 = .ok (.iconst 1, 1) := dk_4 (dk_at dksX0_set_1 21 rfl rfl)
theorem dX0_set_46 : decode cX0_set 46 = .ok (.putfield 27, 3) := dk_181 0 27 (dk_at dksX0_set_2 0 rfl rfl)
theorem dX0_set_49 : decode cX0_set 49 = .ok (.iload_n 3, 1) := dk_29 (dk_at dksX0_set_2 3 rfl rfl)
theorem dX0_set_50 : decode cX0_set 50 = .ok (.ireturn, 1) := dk_172 (dk_at dksX0_set_2 4 rfl rfl)
abbrev cX0_read : ByteArray := prog_1_method_13_code
def yX0_read : MethodName := ⟨RX0, "read", "(I)I"⟩
def dkwX0_read_2 : List UInt8 := [182, 0, 133, 182, 0, 137, 155, 0, 9, 132, 3, 1, 167, 255, 228, 29, 172]
abbrev dktX0_read_2 : List UInt8 := dkwX0_read_2 ++ []
def dkwX0_read_1 : List UInt8 := [42, 4, 182, 0, 122, 172, 3, 62, 29, 44, 182, 0, 126, 162, 0, 26, 42, 29, 44, 44, 182, 0, 130, 29]
abbrev dktX0_read_1 : List UInt8 := dkwX0_read_1 ++ dktX0_read_2
def dkwX0_read_0 : List UInt8 := [27, 184, 0, 116, 154, 0, 6, 16, 254, 172, 42, 180, 0, 78, 27, 50, 77, 44, 180, 0, 119, 199, 0, 9]
abbrev dktX0_read_0 : List UInt8 := dkwX0_read_0 ++ dktX0_read_1
theorem dksX0_read_0 : cX0_read.data.toList.drop 0 = dktX0_read_0 := by decide +kernel
theorem dksX0_read_1 : cX0_read.data.toList.drop 24 = dktX0_read_1 := dk_seg dksX0_read_0 24 rfl rfl
theorem dksX0_read_2 : cX0_read.data.toList.drop 48 = dktX0_read_2 := dk_seg dksX0_read_1 24 rfl rfl
theorem dX0_read_0 : decode cX0_read 0 = .ok (.iload_n 1, 1) := dk_27 (dk_at dksX0_read_0 0 rfl rfl)
theorem dX0_read_1 : decode cX0_read 1 = .ok (.invokestatic 116, 3) := dk_184 0 116 (dk_at dksX0_read_0 1 rfl rfl)
theorem dX0_read_4 : decode cX0_read 4 = .ok (.ifCond .ne 6, 3) := dk_154 0 6 (dk_at dksX0_read_0 4 rfl rfl)
theorem dX0_read_7 : decode cX0_read 7 = .ok (.bipush (-2), 2) := dk_16 254 (dk_at dksX0_read_0 7 rfl rfl)
theorem dX0_read_9 : decode cX0_read 9 = .ok (.ireturn, 1) := dk_172 (dk_at dksX0_read_0 9 rfl rfl)
theorem dX0_read_10 : decode cX0_read 10 = .ok (.aload_n 0, 1) := dk_42 (dk_at dksX0_read_0 10 rfl rfl)
theorem dX0_read_11 : decode cX0_read 11 = .ok (.getfield 78, 3) := dk_180 0 78 (dk_at dksX0_read_0 11 rfl rfl)
theorem dX0_read_14 : decode cX0_read 14 = .ok (.iload_n 1, 1) := dk_27 (dk_at dksX0_read_0 14 rfl rfl)
theorem dX0_read_15 : decode cX0_read 15 = .ok (.aaload, 1) := dk_50 (dk_at dksX0_read_0 15 rfl rfl)
theorem dX0_read_16 : decode cX0_read 16 = .ok (.astore_n 2, 1) := dk_77 (dk_at dksX0_read_0 16 rfl rfl)
theorem dX0_read_17 : decode cX0_read 17 = .ok (.aload_n 2, 1) := dk_44 (dk_at dksX0_read_0 17 rfl rfl)
theorem dX0_read_18 : decode cX0_read 18 = .ok (.getfield 119, 3) := dk_180 0 119 (dk_at dksX0_read_0 18 rfl rfl)
theorem dX0_read_21 : decode cX0_read 21 = .ok (.ifnonnull 9, 3) := dk_199 0 9 (dk_at dksX0_read_0 21 rfl rfl)
theorem dX0_read_24 : decode cX0_read 24 = .ok (.aload_n 0, 1) := dk_42 (dk_at dksX0_read_1 0 rfl rfl)
theorem dX0_read_25 : decode cX0_read 25 = .ok (.iconst 1, 1) := dk_4 (dk_at dksX0_read_1 1 rfl rfl)
theorem dX0_read_26 : decode cX0_read 26 = .ok (.invokevirtual 122, 3) := dk_182 0 122 (dk_at dksX0_read_1 2 rfl rfl)
theorem dX0_read_29 : decode cX0_read 29 = .ok (.ireturn, 1) := dk_172 (dk_at dksX0_read_1 5 rfl rfl)
theorem dX0_read_30 : decode cX0_read 30 = .ok (.iconst 0, 1) := dk_3 (dk_at dksX0_read_1 6 rfl rfl)
theorem dX0_read_31 : decode cX0_read 31 = .ok (.istore_n 3, 1) := dk_62 (dk_at dksX0_read_1 7 rfl rfl)
theorem dX0_read_32 : decode cX0_read 32 = .ok (.iload_n 3, 1) := dk_29 (dk_at dksX0_read_1 8 rfl rfl)
theorem dX0_read_33 : decode cX0_read 33 = .ok (.aload_n 2, 1) := dk_44 (dk_at dksX0_read_1 9 rfl rfl)
theorem dX0_read_34 : decode cX0_read 34 = .ok (.invokevirtual 126, 3) := dk_182 0 126 (dk_at dksX0_read_1 10 rfl rfl)
theorem dX0_read_37 : decode cX0_read 37 = .ok (.if_icmp .ge 26, 3) := dk_162 0 26 (dk_at dksX0_read_1 13 rfl rfl)
theorem dX0_read_40 : decode cX0_read 40 = .ok (.aload_n 0, 1) := dk_42 (dk_at dksX0_read_1 16 rfl rfl)
theorem dX0_read_41 : decode cX0_read 41 = .ok (.iload_n 3, 1) := dk_29 (dk_at dksX0_read_1 17 rfl rfl)
theorem dX0_read_42 : decode cX0_read 42 = .ok (.aload_n 2, 1) := dk_44 (dk_at dksX0_read_1 18 rfl rfl)
theorem dX0_read_43 : decode cX0_read 43 = .ok (.aload_n 2, 1) := dk_44 (dk_at dksX0_read_1 19 rfl rfl)
theorem dX0_read_44 : decode cX0_read 44 = .ok (.invokevirtual 130, 3) := dk_182 0 130 (dk_at dksX0_read_1 20 rfl rfl)
theorem dX0_read_47 : decode cX0_read 47 = .ok (.iload_n 3, 1) := dk_29 (dk_at dksX0_read_1 23 rfl rfl)
theorem dX0_read_48 : decode cX0_read 48 = .ok (.invokevirtual 133, 3) := dk_182 0 133 (dk_at dksX0_read_2 0 rfl rfl)
theorem dX0_read_51 : decode cX0_read 51 = .ok (.invokevirtual 137, 3) := dk_182 0 137 (dk_at dksX0_read_2 3 rfl rfl)
theorem dX0_read_54 : decode cX0_read 54 = .ok (.ifCond .lt 9, 3) := dk_155 0 9 (dk_at dksX0_read_2 6 rfl rfl)
theorem dX0_read_57 : decode cX0_read 57 = .ok (.iinc 3 1, 3) := dk_132 3 1 (dk_at dksX0_read_2 9 rfl rfl)
theorem dX0_read_60 : decode cX0_read 60 = .ok (.goto (-28), 3) := dk_167 255 228 (dk_at dksX0_read_2 12 rfl rfl)
theorem dX0_read_63 : decode cX0_read 63 = .ok (.iload_n 3, 1) := dk_29 (dk_at dksX0_read_2 15 rfl rfl)
theorem dX0_read_64 : decode cX0_read 64 = .ok (.ireturn, 1) := dk_172 (dk_at dksX0_read_2 16 rfl rfl)
abbrev cX0_isSheet : ByteArray := prog_1_method_77_code
def yX0_isSheet : MethodName := ⟨RX0, "isSheet", "(I)Z"⟩
def dkwX0_isSheet_0 : List UInt8 := [26, 133, 9, 20, 0, 99, 184, 0, 89, 172]
abbrev dktX0_isSheet_0 : List UInt8 := dkwX0_isSheet_0 ++ []
theorem dksX0_isSheet_0 : cX0_isSheet.data.toList.drop 0 = dktX0_isSheet_0 := by decide +kernel
theorem dX0_isSheet_0 : decode cX0_isSheet 0 = .ok (.iload_n 0, 1) := dk_26 (dk_at dksX0_isSheet_0 0 rfl rfl)
theorem dX0_isSheet_1 : decode cX0_isSheet 1 = .ok (.i2l, 1) := dk_133 (dk_at dksX0_isSheet_0 1 rfl rfl)
theorem dX0_isSheet_2 : decode cX0_isSheet 2 = .ok (.lconst 0, 1) := dk_9 (dk_at dksX0_isSheet_0 2 rfl rfl)
theorem dX0_isSheet_3 : decode cX0_isSheet 3 = .ok (.ldc2_w 99, 3) := dk_20 0 99 (dk_at dksX0_isSheet_0 3 rfl rfl)
theorem dX0_isSheet_6 : decode cX0_isSheet 6 = .ok (.invokestatic 89, 3) := dk_184 0 89 (dk_at dksX0_isSheet_0 6 rfl rfl)
theorem dX0_isSheet_9 : decode cX0_isSheet 9 = .ok (.ireturn, 1) := dk_172 (dk_at dksX0_isSheet_0 9 rfl rfl)
abbrev cX0_met : ByteArray := prog_1_method_4_code
def yX0_met : MethodName := ⟨RX0, "met", "(I)I"⟩
def dkwX0_met_0 : List UInt8 := [42, 27, 181, 0, 84, 16, 246, 27, 100, 172]
abbrev dktX0_met_0 : List UInt8 := dkwX0_met_0 ++ []
theorem dksX0_met_0 : cX0_met.data.toList.drop 0 = dktX0_met_0 := by decide +kernel
theorem dX0_met_0 : decode cX0_met 0 = .ok (.aload_n 0, 1) := dk_42 (dk_at dksX0_met_0 0 rfl rfl)
theorem dX0_met_1 : decode cX0_met 1 = .ok (.iload_n 1, 1) := dk_27 (dk_at dksX0_met_0 1 rfl rfl)
theorem dX0_met_2 : decode cX0_met 2 = .ok (.putfield 84, 3) := dk_181 0 84 (dk_at dksX0_met_0 2 rfl rfl)
theorem dX0_met_5 : decode cX0_met 5 = .ok (.bipush (-10), 2) := dk_16 246 (dk_at dksX0_met_0 5 rfl rfl)
theorem dX0_met_7 : decode cX0_met 7 = .ok (.iload_n 1, 1) := dk_27 (dk_at dksX0_met_0 7 rfl rfl)
theorem dX0_met_8 : decode cX0_met 8 = .ok (.isub, 1) := dk_100 (dk_at dksX0_met_0 8 rfl rfl)
theorem dX0_met_9 : decode cX0_met 9 = .ok (.ireturn, 1) := dk_172 (dk_at dksX0_met_0 9 rfl rfl)
abbrev cX0_type : ByteArray := prog_1_method_15_code
def yX0_type : MethodName := ⟨RX0, "type", "(II)I"⟩
def dkwX0_type_1 : List UInt8 := [181, 0, 27, 42, 27, 182, 0, 141, 28, 182, 0, 145, 172]
abbrev dktX0_type_1 : List UInt8 := dkwX0_type_1 ++ []
def dkwX0_type_0 : List UInt8 := [27, 184, 0, 110, 153, 0, 15, 28, 133, 9, 20, 0, 139, 184, 0, 89, 154, 0, 6, 16, 254, 172, 42, 4]
abbrev dktX0_type_0 : List UInt8 := dkwX0_type_0 ++ dktX0_type_1
theorem dksX0_type_0 : cX0_type.data.toList.drop 0 = dktX0_type_0 := by decide +kernel
theorem dksX0_type_1 : cX0_type.data.toList.drop 24 = dktX0_type_1 := dk_seg dksX0_type_0 24 rfl rfl
theorem dX0_type_0 : decode cX0_type 0 = .ok (.iload_n 1, 1) := dk_27 (dk_at dksX0_type_0 0 rfl rfl)
theorem dX0_type_1 : decode cX0_type 1 = .ok (.invokestatic 110, 3) := dk_184 0 110 (dk_at dksX0_type_0 1 rfl rfl)
theorem dX0_type_4 : decode cX0_type 4 = .ok (.ifCond .eq 15, 3) := dk_153 0 15 (dk_at dksX0_type_0 4 rfl rfl)
theorem dX0_type_7 : decode cX0_type 7 = .ok (.iload_n 2, 1) := dk_28 (dk_at dksX0_type_0 7 rfl rfl)
theorem dX0_type_8 : decode cX0_type 8 = .ok (.i2l, 1) := dk_133 (dk_at dksX0_type_0 8 rfl rfl)
theorem dX0_type_9 : decode cX0_type 9 = .ok (.lconst 0, 1) := dk_9 (dk_at dksX0_type_0 9 rfl rfl)
theorem dX0_type_10 : decode cX0_type 10 = .ok (.ldc2_w 139, 3) := dk_20 0 139 (dk_at dksX0_type_0 10 rfl rfl)
theorem dX0_type_13 : decode cX0_type 13 = .ok (.invokestatic 89, 3) := dk_184 0 89 (dk_at dksX0_type_0 13 rfl rfl)
theorem dX0_type_16 : decode cX0_type 16 = .ok (.ifCond .ne 6, 3) := dk_154 0 6 (dk_at dksX0_type_0 16 rfl rfl)
theorem dX0_type_19 : decode cX0_type 19 = .ok (.bipush (-2), 2) := dk_16 254 (dk_at dksX0_type_0 19 rfl rfl)
theorem dX0_type_21 : decode cX0_type 21 = .ok (.ireturn, 1) := dk_172 (dk_at dksX0_type_0 21 rfl rfl)
theorem dX0_type_22 : decode cX0_type 22 = .ok (.aload_n 0, 1) := dk_42 (dk_at dksX0_type_0 22 rfl rfl)
theorem dX0_type_23 : decode cX0_type 23 = .ok (.iconst 1, 1) := dk_4 (dk_at dksX0_type_0 23 rfl rfl)
theorem dX0_type_24 : decode cX0_type 24 = .ok (.putfield 27, 3) := dk_181 0 27 (dk_at dksX0_type_1 0 rfl rfl)
theorem dX0_type_27 : decode cX0_type 27 = .ok (.aload_n 0, 1) := dk_42 (dk_at dksX0_type_1 3 rfl rfl)
theorem dX0_type_28 : decode cX0_type 28 = .ok (.iload_n 1, 1) := dk_27 (dk_at dksX0_type_1 4 rfl rfl)
theorem dX0_type_29 : decode cX0_type 29 = .ok (.invokevirtual 141, 3) := dk_182 0 141 (dk_at dksX0_type_1 5 rfl rfl)
theorem dX0_type_32 : decode cX0_type 32 = .ok (.iload_n 2, 1) := dk_28 (dk_at dksX0_type_1 8 rfl rfl)
theorem dX0_type_33 : decode cX0_type 33 = .ok (.invokevirtual 145, 3) := dk_182 0 145 (dk_at dksX0_type_1 9 rfl rfl)
theorem dX0_type_36 : decode cX0_type 36 = .ok (.ireturn, 1) := dk_172 (dk_at dksX0_type_1 12 rfl rfl)
abbrev cX0_text : ByteArray := prog_1_method_14_code
def yX0_text : MethodName := ⟨RX0, "text", "(I)LSecondChances$Text;"⟩
def dkwX0_text_0 : List UInt8 := [27, 154, 0, 10, 42, 180, 0, 34, 167, 0, 7, 42, 180, 0, 41, 176]
abbrev dktX0_text_0 : List UInt8 := dkwX0_text_0 ++ []
theorem dksX0_text_0 : cX0_text.data.toList.drop 0 = dktX0_text_0 := by decide +kernel
theorem dX0_text_0 : decode cX0_text 0 = .ok (.iload_n 1, 1) := dk_27 (dk_at dksX0_text_0 0 rfl rfl)
theorem dX0_text_1 : decode cX0_text 1 = .ok (.ifCond .ne 10, 3) := dk_154 0 10 (dk_at dksX0_text_0 1 rfl rfl)
theorem dX0_text_4 : decode cX0_text 4 = .ok (.aload_n 0, 1) := dk_42 (dk_at dksX0_text_0 4 rfl rfl)
theorem dX0_text_5 : decode cX0_text 5 = .ok (.getfield 34, 3) := dk_180 0 34 (dk_at dksX0_text_0 5 rfl rfl)
theorem dX0_text_8 : decode cX0_text 8 = .ok (.goto 7, 3) := dk_167 0 7 (dk_at dksX0_text_0 8 rfl rfl)
theorem dX0_text_11 : decode cX0_text 11 = .ok (.aload_n 0, 1) := dk_42 (dk_at dksX0_text_0 11 rfl rfl)
theorem dX0_text_12 : decode cX0_text 12 = .ok (.getfield 41, 3) := dk_180 0 41 (dk_at dksX0_text_0 12 rfl rfl)
theorem dX0_text_15 : decode cX0_text 15 = .ok (.areturn, 1) := dk_176 (dk_at dksX0_text_0 15 rfl rfl)
abbrev cX0_wipe : ByteArray := prog_1_method_16_code
def yX0_wipe : MethodName := ⟨RX0, "wipe", "(I)I"⟩
def dkwX0_wipe_0 : List UInt8 := [27, 184, 0, 110, 154, 0, 6, 16, 254, 172, 42, 4, 181, 0, 27, 42, 27, 182, 0, 141, 182, 0, 149, 172]
abbrev dktX0_wipe_0 : List UInt8 := dkwX0_wipe_0 ++ []
theorem dksX0_wipe_0 : cX0_wipe.data.toList.drop 0 = dktX0_wipe_0 := by decide +kernel
theorem dX0_wipe_0 : decode cX0_wipe 0 = .ok (.iload_n 1, 1) := dk_27 (dk_at dksX0_wipe_0 0 rfl rfl)
theorem dX0_wipe_1 : decode cX0_wipe 1 = .ok (.invokestatic 110, 3) := dk_184 0 110 (dk_at dksX0_wipe_0 1 rfl rfl)
theorem dX0_wipe_4 : decode cX0_wipe 4 = .ok (.ifCond .ne 6, 3) := dk_154 0 6 (dk_at dksX0_wipe_0 4 rfl rfl)
theorem dX0_wipe_7 : decode cX0_wipe 7 = .ok (.bipush (-2), 2) := dk_16 254 (dk_at dksX0_wipe_0 7 rfl rfl)
theorem dX0_wipe_9 : decode cX0_wipe 9 = .ok (.ireturn, 1) := dk_172 (dk_at dksX0_wipe_0 9 rfl rfl)
theorem dX0_wipe_10 : decode cX0_wipe 10 = .ok (.aload_n 0, 1) := dk_42 (dk_at dksX0_wipe_0 10 rfl rfl)
theorem dX0_wipe_11 : decode cX0_wipe 11 = .ok (.iconst 1, 1) := dk_4 (dk_at dksX0_wipe_0 11 rfl rfl)
theorem dX0_wipe_12 : decode cX0_wipe 12 = .ok (.putfield 27, 3) := dk_181 0 27 (dk_at dksX0_wipe_0 12 rfl rfl)
theorem dX0_wipe_15 : decode cX0_wipe 15 = .ok (.aload_n 0, 1) := dk_42 (dk_at dksX0_wipe_0 15 rfl rfl)
theorem dX0_wipe_16 : decode cX0_wipe 16 = .ok (.iload_n 1, 1) := dk_27 (dk_at dksX0_wipe_0 16 rfl rfl)
theorem dX0_wipe_17 : decode cX0_wipe 17 = .ok (.invokevirtual 141, 3) := dk_182 0 141 (dk_at dksX0_wipe_0 17 rfl rfl)
theorem dX0_wipe_20 : decode cX0_wipe 20 = .ok (.invokevirtual 149, 3) := dk_182 0 149 (dk_at dksX0_wipe_0 20 rfl rfl)
theorem dX0_wipe_23 : decode cX0_wipe 23 = .ok (.ireturn, 1) := dk_172 (dk_at dksX0_wipe_0 23 rfl rfl)
abbrev cX0_fault : ByteArray := prog_1_method_17_code
def yX0_fault : MethodName := ⟨RX0, "fault", "(I)I"⟩
def dkwX0_fault_0 : List UInt8 := [27, 184, 0, 110, 153, 0, 14, 42, 27, 182, 0, 141, 182, 0, 152, 167, 0, 5, 16, 254, 172]
abbrev dktX0_fault_0 : List UInt8 := dkwX0_fault_0 ++ []
theorem dksX0_fault_0 : cX0_fault.data.toList.drop 0 = dktX0_fault_0 := by decide +kernel
theorem dX0_fault_0 : decode cX0_fault 0 = .ok (.iload_n 1, 1) := dk_27 (dk_at dksX0_fault_0 0 rfl rfl)
theorem dX0_fault_1 : decode cX0_fault 1 = .ok (.invokestatic 110, 3) := dk_184 0 110 (dk_at dksX0_fault_0 1 rfl rfl)
theorem dX0_fault_4 : decode cX0_fault 4 = .ok (.ifCond .eq 14, 3) := dk_153 0 14 (dk_at dksX0_fault_0 4 rfl rfl)
theorem dX0_fault_7 : decode cX0_fault 7 = .ok (.aload_n 0, 1) := dk_42 (dk_at dksX0_fault_0 7 rfl rfl)
theorem dX0_fault_8 : decode cX0_fault 8 = .ok (.iload_n 1, 1) := dk_27 (dk_at dksX0_fault_0 8 rfl rfl)
theorem dX0_fault_9 : decode cX0_fault 9 = .ok (.invokevirtual 141, 3) := dk_182 0 141 (dk_at dksX0_fault_0 9 rfl rfl)
theorem dX0_fault_12 : decode cX0_fault 12 = .ok (.invokevirtual 152, 3) := dk_182 0 152 (dk_at dksX0_fault_0 12 rfl rfl)
theorem dX0_fault_15 : decode cX0_fault 15 = .ok (.goto 5, 3) := dk_167 0 5 (dk_at dksX0_fault_0 15 rfl rfl)
theorem dX0_fault_18 : decode cX0_fault 18 = .ok (.bipush (-2), 2) := dk_16 254 (dk_at dksX0_fault_0 18 rfl rfl)
theorem dX0_fault_20 : decode cX0_fault 20 = .ok (.ireturn, 1) := dk_172 (dk_at dksX0_fault_0 20 rfl rfl)
abbrev cX0_isIn : ByteArray := prog_1_method_7_code
def yX0_isIn : MethodName := ⟨RX0, "isIn", "(II)Z"⟩
def dkwX0_isIn_0 : List UInt8 := [26, 27, 122, 4, 126, 4, 160, 0, 7, 4, 167, 0, 4, 3, 172]
abbrev dktX0_isIn_0 : List UInt8 := dkwX0_isIn_0 ++ []
theorem dksX0_isIn_0 : cX0_isIn.data.toList.drop 0 = dktX0_isIn_0 := by decide +kernel
theorem dX0_isIn_0 : decode cX0_isIn 0 = .ok (.iload_n 0, 1) := dk_26 (dk_at dksX0_isIn_0 0 rfl rfl)
theorem dX0_isIn_1 : decode cX0_isIn 1 = .ok (.iload_n 1, 1) := dk_27 (dk_at dksX0_isIn_0 1 rfl rfl)
theorem dX0_isIn_2 : decode cX0_isIn 2 = .ok (.ishr, 1) := dk_122 (dk_at dksX0_isIn_0 2 rfl rfl)
theorem dX0_isIn_3 : decode cX0_isIn 3 = .ok (.iconst 1, 1) := dk_4 (dk_at dksX0_isIn_0 3 rfl rfl)
theorem dX0_isIn_4 : decode cX0_isIn 4 = .ok (.iand, 1) := dk_126 (dk_at dksX0_isIn_0 4 rfl rfl)
theorem dX0_isIn_5 : decode cX0_isIn 5 = .ok (.iconst 1, 1) := dk_4 (dk_at dksX0_isIn_0 5 rfl rfl)
theorem dX0_isIn_6 : decode cX0_isIn 6 = .ok (.if_icmp .ne 7, 3) := dk_160 0 7 (dk_at dksX0_isIn_0 6 rfl rfl)
theorem dX0_isIn_9 : decode cX0_isIn 9 = .ok (.iconst 1, 1) := dk_4 (dk_at dksX0_isIn_0 9 rfl rfl)
theorem dX0_isIn_10 : decode cX0_isIn 10 = .ok (.goto 4, 3) := dk_167 0 4 (dk_at dksX0_isIn_0 10 rfl rfl)
theorem dX0_isIn_13 : decode cX0_isIn 13 = .ok (.iconst 0, 1) := dk_3 (dk_at dksX0_isIn_0 13 rfl rfl)
theorem dX0_isIn_14 : decode cX0_isIn 14 = .ok (.ireturn, 1) := dk_172 (dk_at dksX0_isIn_0 14 rfl rfl)
abbrev cX0_deed : ByteArray := prog_1_method_22_code
def yX0_deed : MethodName := ⟨RX0, "deed", "(II)I"⟩
def dkwX0_deed_1 : List UInt8 := [182, 0, 191, 167, 0, 5, 16, 254, 172]
abbrev dktX0_deed_1 : List UInt8 := dkwX0_deed_1 ++ []
def dkwX0_deed_0 : List UInt8 := [42, 27, 182, 0, 186, 153, 0, 24, 28, 133, 9, 20, 0, 189, 184, 0, 89, 153, 0, 12, 42, 27, 28]
abbrev dktX0_deed_0 : List UInt8 := dkwX0_deed_0 ++ dktX0_deed_1
theorem dksX0_deed_0 : cX0_deed.data.toList.drop 0 = dktX0_deed_0 := by decide +kernel
theorem dksX0_deed_1 : cX0_deed.data.toList.drop 23 = dktX0_deed_1 := dk_seg dksX0_deed_0 23 rfl rfl
theorem dX0_deed_0 : decode cX0_deed 0 = .ok (.aload_n 0, 1) := dk_42 (dk_at dksX0_deed_0 0 rfl rfl)
theorem dX0_deed_1 : decode cX0_deed 1 = .ok (.iload_n 1, 1) := dk_27 (dk_at dksX0_deed_0 1 rfl rfl)
theorem dX0_deed_2 : decode cX0_deed 2 = .ok (.invokevirtual 186, 3) := dk_182 0 186 (dk_at dksX0_deed_0 2 rfl rfl)
theorem dX0_deed_5 : decode cX0_deed 5 = .ok (.ifCond .eq 24, 3) := dk_153 0 24 (dk_at dksX0_deed_0 5 rfl rfl)
theorem dX0_deed_8 : decode cX0_deed 8 = .ok (.iload_n 2, 1) := dk_28 (dk_at dksX0_deed_0 8 rfl rfl)
theorem dX0_deed_9 : decode cX0_deed 9 = .ok (.i2l, 1) := dk_133 (dk_at dksX0_deed_0 9 rfl rfl)
theorem dX0_deed_10 : decode cX0_deed 10 = .ok (.lconst 0, 1) := dk_9 (dk_at dksX0_deed_0 10 rfl rfl)
theorem dX0_deed_11 : decode cX0_deed 11 = .ok (.ldc2_w 189, 3) := dk_20 0 189 (dk_at dksX0_deed_0 11 rfl rfl)
theorem dX0_deed_14 : decode cX0_deed 14 = .ok (.invokestatic 89, 3) := dk_184 0 89 (dk_at dksX0_deed_0 14 rfl rfl)
theorem dX0_deed_17 : decode cX0_deed 17 = .ok (.ifCond .eq 12, 3) := dk_153 0 12 (dk_at dksX0_deed_0 17 rfl rfl)
theorem dX0_deed_20 : decode cX0_deed 20 = .ok (.aload_n 0, 1) := dk_42 (dk_at dksX0_deed_0 20 rfl rfl)
theorem dX0_deed_21 : decode cX0_deed 21 = .ok (.iload_n 1, 1) := dk_27 (dk_at dksX0_deed_0 21 rfl rfl)
theorem dX0_deed_22 : decode cX0_deed 22 = .ok (.iload_n 2, 1) := dk_28 (dk_at dksX0_deed_0 22 rfl rfl)
theorem dX0_deed_23 : decode cX0_deed 23 = .ok (.invokevirtual 191, 3) := dk_182 0 191 (dk_at dksX0_deed_1 0 rfl rfl)
theorem dX0_deed_26 : decode cX0_deed 26 = .ok (.goto 5, 3) := dk_167 0 5 (dk_at dksX0_deed_1 3 rfl rfl)
theorem dX0_deed_29 : decode cX0_deed 29 = .ok (.bipush (-2), 2) := dk_16 254 (dk_at dksX0_deed_1 6 rfl rfl)
theorem dX0_deed_31 : decode cX0_deed 31 = .ok (.ireturn, 1) := dk_172 (dk_at dksX0_deed_1 8 rfl rfl)
abbrev cX0_isDeed : ByteArray := prog_1_method_20_code
def yX0_isDeed : MethodName := ⟨RX0, "isDeed", "(I)Z"⟩
def dkwX0_isDeed_0 : List UInt8 := [27, 133, 9, 42, 182, 0, 166, 4, 100, 133, 184, 0, 89, 172]
abbrev dktX0_isDeed_0 : List UInt8 := dkwX0_isDeed_0 ++ []
theorem dksX0_isDeed_0 : cX0_isDeed.data.toList.drop 0 = dktX0_isDeed_0 := by decide +kernel
theorem dX0_isDeed_0 : decode cX0_isDeed 0 = .ok (.iload_n 1, 1) := dk_27 (dk_at dksX0_isDeed_0 0 rfl rfl)
theorem dX0_isDeed_1 : decode cX0_isDeed 1 = .ok (.i2l, 1) := dk_133 (dk_at dksX0_isDeed_0 1 rfl rfl)
theorem dX0_isDeed_2 : decode cX0_isDeed 2 = .ok (.lconst 0, 1) := dk_9 (dk_at dksX0_isDeed_0 2 rfl rfl)
theorem dX0_isDeed_3 : decode cX0_isDeed 3 = .ok (.aload_n 0, 1) := dk_42 (dk_at dksX0_isDeed_0 3 rfl rfl)
theorem dX0_isDeed_4 : decode cX0_isDeed 4 = .ok (.invokevirtual 166, 3) := dk_182 0 166 (dk_at dksX0_isDeed_0 4 rfl rfl)
theorem dX0_isDeed_7 : decode cX0_isDeed 7 = .ok (.iconst 1, 1) := dk_4 (dk_at dksX0_isDeed_0 7 rfl rfl)
theorem dX0_isDeed_8 : decode cX0_isDeed 8 = .ok (.isub, 1) := dk_100 (dk_at dksX0_isDeed_0 8 rfl rfl)
theorem dX0_isDeed_9 : decode cX0_isDeed 9 = .ok (.i2l, 1) := dk_133 (dk_at dksX0_isDeed_0 9 rfl rfl)
theorem dX0_isDeed_10 : decode cX0_isDeed 10 = .ok (.invokestatic 89, 3) := dk_184 0 89 (dk_at dksX0_isDeed_0 10 rfl rfl)
theorem dX0_isDeed_13 : decode cX0_isDeed 13 = .ok (.ireturn, 1) := dk_172 (dk_at dksX0_isDeed_0 13 rfl rfl)
abbrev cX0_deeds : ByteArray := prog_1_method_18_code
def yX0_deeds : MethodName := ⟨RX0, "deeds", "()I"⟩
def dkwX0_deeds_1 : List UInt8 := [182, 0, 159, 172]
abbrev dktX0_deeds_1 : List UInt8 := dkwX0_deeds_1 ++ []
def dkwX0_deeds_0 : List UInt8 := [42, 180, 0, 34, 182, 0, 155, 87, 42, 180, 0, 41, 182, 0, 156, 87, 42, 180, 0, 34, 180, 0, 157]
abbrev dktX0_deeds_0 : List UInt8 := dkwX0_deeds_0 ++ dktX0_deeds_1
theorem dksX0_deeds_0 : cX0_deeds.data.toList.drop 0 = dktX0_deeds_0 := by decide +kernel
theorem dksX0_deeds_1 : cX0_deeds.data.toList.drop 23 = dktX0_deeds_1 := dk_seg dksX0_deeds_0 23 rfl rfl
theorem dX0_deeds_0 : decode cX0_deeds 0 = .ok (.aload_n 0, 1) := dk_42 (dk_at dksX0_deeds_0 0 rfl rfl)
theorem dX0_deeds_1 : decode cX0_deeds 1 = .ok (.getfield 34, 3) := dk_180 0 34 (dk_at dksX0_deeds_0 1 rfl rfl)
theorem dX0_deeds_4 : decode cX0_deeds 4 = .ok (.invokevirtual 155, 3) := dk_182 0 155 (dk_at dksX0_deeds_0 4 rfl rfl)
theorem dX0_deeds_7 : decode cX0_deeds 7 = .ok (.pop, 1) := dk_87 (dk_at dksX0_deeds_0 7 rfl rfl)
theorem dX0_deeds_8 : decode cX0_deeds 8 = .ok (.aload_n 0, 1) := dk_42 (dk_at dksX0_deeds_0 8 rfl rfl)
theorem dX0_deeds_9 : decode cX0_deeds 9 = .ok (.getfield 41, 3) := dk_180 0 41 (dk_at dksX0_deeds_0 9 rfl rfl)
theorem dX0_deeds_12 : decode cX0_deeds 12 = .ok (.invokevirtual 156, 3) := dk_182 0 156 (dk_at dksX0_deeds_0 12 rfl rfl)
theorem dX0_deeds_15 : decode cX0_deeds 15 = .ok (.pop, 1) := dk_87 (dk_at dksX0_deeds_0 15 rfl rfl)
theorem dX0_deeds_16 : decode cX0_deeds 16 = .ok (.aload_n 0, 1) := dk_42 (dk_at dksX0_deeds_0 16 rfl rfl)
theorem dX0_deeds_17 : decode cX0_deeds 17 = .ok (.getfield 34, 3) := dk_180 0 34 (dk_at dksX0_deeds_0 17 rfl rfl)
theorem dX0_deeds_20 : decode cX0_deeds 20 = .ok (.getfield 157, 3) := dk_180 0 157 (dk_at dksX0_deeds_0 20 rfl rfl)
theorem dX0_deeds_23 : decode cX0_deeds 23 = .ok (.invokevirtual 159, 3) := dk_182 0 159 (dk_at dksX0_deeds_1 0 rfl rfl)
theorem dX0_deeds_26 : decode cX0_deeds 26 = .ok (.ireturn, 1) := dk_172 (dk_at dksX0_deeds_1 3 rfl rfl)
abbrev cX0_deedBy : ByteArray := prog_1_method_21_code
def yX0_deedBy : MethodName := ⟨RX0, "deedBy", "(II)I"⟩
def dkwX0_deedBy_3 : List UInt8 := [172]
abbrev dktX0_deedBy_3 : List UInt8 := dkwX0_deedBy_3 ++ []
def dkwX0_deedBy_2 : List UInt8 := [45, 180, 0, 172, 172, 45, 180, 0, 175, 172, 45, 180, 0, 178, 172, 45, 180, 0, 180, 172, 45, 180, 0, 183]
abbrev dktX0_deedBy_2 : List UInt8 := dkwX0_deedBy_2 ++ dktX0_deedBy_3
def dkwX0_deedBy_1 : List UInt8 := [170, 0, 0, 0, 49, 0, 0, 0, 0, 0, 0, 0, 3, 0, 0, 0, 29, 0, 0, 0, 34, 0, 0, 0, 39, 0, 0, 0, 44]
abbrev dktX0_deedBy_1 : List UInt8 := dkwX0_deedBy_1 ++ dktX0_deedBy_2
def dkwX0_deedBy_0 : List UInt8 := [42, 27, 182, 0, 168, 78, 28]
abbrev dktX0_deedBy_0 : List UInt8 := dkwX0_deedBy_0 ++ dktX0_deedBy_1
theorem dksX0_deedBy_0 : cX0_deedBy.data.toList.drop 0 = dktX0_deedBy_0 := by decide +kernel
theorem dksX0_deedBy_1 : cX0_deedBy.data.toList.drop 7 = dktX0_deedBy_1 := dk_seg dksX0_deedBy_0 7 rfl rfl
theorem dksX0_deedBy_2 : cX0_deedBy.data.toList.drop 36 = dktX0_deedBy_2 := dk_seg dksX0_deedBy_1 29 rfl rfl
theorem dksX0_deedBy_3 : cX0_deedBy.data.toList.drop 60 = dktX0_deedBy_3 := dk_seg dksX0_deedBy_2 24 rfl rfl
theorem dX0_deedBy_0 : decode cX0_deedBy 0 = .ok (.aload_n 0, 1) := dk_42 (dk_at dksX0_deedBy_0 0 rfl rfl)
theorem dX0_deedBy_1 : decode cX0_deedBy 1 = .ok (.iload_n 1, 1) := dk_27 (dk_at dksX0_deedBy_0 1 rfl rfl)
theorem dX0_deedBy_2 : decode cX0_deedBy 2 = .ok (.invokevirtual 168, 3) := dk_182 0 168 (dk_at dksX0_deedBy_0 2 rfl rfl)
theorem dX0_deedBy_5 : decode cX0_deedBy 5 = .ok (.astore_n 3, 1) := dk_78 (dk_at dksX0_deedBy_0 5 rfl rfl)
theorem dX0_deedBy_6 : decode cX0_deedBy 6 = .ok (.iload_n 2, 1) := dk_28 (dk_at dksX0_deedBy_0 6 rfl rfl)
theorem dX0_deedBy_7 : decode cX0_deedBy 7 = .ok (.tableswitch 49 0 3 #[29, 34, 39, 44], 29) := by decide +kernel
theorem dX0_deedBy_36 : decode cX0_deedBy 36 = .ok (.aload_n 3, 1) := dk_45 (dk_at dksX0_deedBy_2 0 rfl rfl)
theorem dX0_deedBy_37 : decode cX0_deedBy 37 = .ok (.getfield 172, 3) := dk_180 0 172 (dk_at dksX0_deedBy_2 1 rfl rfl)
theorem dX0_deedBy_40 : decode cX0_deedBy 40 = .ok (.ireturn, 1) := dk_172 (dk_at dksX0_deedBy_2 4 rfl rfl)
theorem dX0_deedBy_41 : decode cX0_deedBy 41 = .ok (.aload_n 3, 1) := dk_45 (dk_at dksX0_deedBy_2 5 rfl rfl)
theorem dX0_deedBy_42 : decode cX0_deedBy 42 = .ok (.getfield 175, 3) := dk_180 0 175 (dk_at dksX0_deedBy_2 6 rfl rfl)
theorem dX0_deedBy_45 : decode cX0_deedBy 45 = .ok (.ireturn, 1) := dk_172 (dk_at dksX0_deedBy_2 9 rfl rfl)
theorem dX0_deedBy_46 : decode cX0_deedBy 46 = .ok (.aload_n 3, 1) := dk_45 (dk_at dksX0_deedBy_2 10 rfl rfl)
theorem dX0_deedBy_47 : decode cX0_deedBy 47 = .ok (.getfield 178, 3) := dk_180 0 178 (dk_at dksX0_deedBy_2 11 rfl rfl)
theorem dX0_deedBy_50 : decode cX0_deedBy 50 = .ok (.ireturn, 1) := dk_172 (dk_at dksX0_deedBy_2 14 rfl rfl)
theorem dX0_deedBy_51 : decode cX0_deedBy 51 = .ok (.aload_n 3, 1) := dk_45 (dk_at dksX0_deedBy_2 15 rfl rfl)
theorem dX0_deedBy_52 : decode cX0_deedBy 52 = .ok (.getfield 180, 3) := dk_180 0 180 (dk_at dksX0_deedBy_2 16 rfl rfl)
theorem dX0_deedBy_55 : decode cX0_deedBy 55 = .ok (.ireturn, 1) := dk_172 (dk_at dksX0_deedBy_2 19 rfl rfl)
theorem dX0_deedBy_56 : decode cX0_deedBy 56 = .ok (.aload_n 3, 1) := dk_45 (dk_at dksX0_deedBy_2 20 rfl rfl)
theorem dX0_deedBy_57 : decode cX0_deedBy 57 = .ok (.getfield 183, 3) := dk_180 0 183 (dk_at dksX0_deedBy_2 21 rfl rfl)
theorem dX0_deedBy_60 : decode cX0_deedBy 60 = .ok (.ireturn, 1) := dk_172 (dk_at dksX0_deedBy_3 0 rfl rfl)
abbrev cX0_deed_2 : ByteArray := prog_1_method_19_code
def yX0_deed_2 : MethodName := ⟨RX0, "deed", "(I)LSecondChances$Deed;"⟩
def dkwX0_deed_2_0 : List UInt8 := [42, 180, 0, 34, 180, 0, 157, 27, 182, 0, 160, 192, 0, 164, 176]
abbrev dktX0_deed_2_0 : List UInt8 := dkwX0_deed_2_0 ++ []
theorem dksX0_deed_2_0 : cX0_deed_2.data.toList.drop 0 = dktX0_deed_2_0 := by decide +kernel
theorem dX0_deed_2_0 : decode cX0_deed_2 0 = .ok (.aload_n 0, 1) := dk_42 (dk_at dksX0_deed_2_0 0 rfl rfl)
theorem dX0_deed_2_1 : decode cX0_deed_2 1 = .ok (.getfield 34, 3) := dk_180 0 34 (dk_at dksX0_deed_2_0 1 rfl rfl)
theorem dX0_deed_2_4 : decode cX0_deed_2 4 = .ok (.getfield 157, 3) := dk_180 0 157 (dk_at dksX0_deed_2_0 4 rfl rfl)
theorem dX0_deed_2_7 : decode cX0_deed_2 7 = .ok (.iload_n 1, 1) := dk_27 (dk_at dksX0_deed_2_0 7 rfl rfl)
theorem dX0_deed_2_8 : decode cX0_deed_2 8 = .ok (.invokevirtual 160, 3) := dk_182 0 160 (dk_at dksX0_deed_2_0 8 rfl rfl)
theorem dX0_deed_2_11 : decode cX0_deed_2 11 = .ok (.checkcast 164, 3) := dk_192 0 164 (dk_at dksX0_deed_2_0 11 rfl rfl)
theorem dX0_deed_2_14 : decode cX0_deed_2 14 = .ok (.areturn, 1) := dk_176 (dk_at dksX0_deed_2_0 14 rfl rfl)
abbrev cX0_rule : ByteArray := prog_1_method_24_code
def yX0_rule : MethodName := ⟨RX0, "rule", "(II)I"⟩
def dkwX0_rule_1 : List UInt8 := [42, 27, 28, 182, 0, 204, 167, 0, 5, 16, 254, 172]
abbrev dktX0_rule_1 : List UInt8 := dkwX0_rule_1 ++ []
def dkwX0_rule_0 : List UInt8 := [27, 133, 9, 20, 0, 99, 184, 0, 89, 153, 0, 24, 28, 133, 9, 20, 0, 202, 184, 0, 89, 153, 0, 12]
abbrev dktX0_rule_0 : List UInt8 := dkwX0_rule_0 ++ dktX0_rule_1
theorem dksX0_rule_0 : cX0_rule.data.toList.drop 0 = dktX0_rule_0 := by decide +kernel
theorem dksX0_rule_1 : cX0_rule.data.toList.drop 24 = dktX0_rule_1 := dk_seg dksX0_rule_0 24 rfl rfl
theorem dX0_rule_0 : decode cX0_rule 0 = .ok (.iload_n 1, 1) := dk_27 (dk_at dksX0_rule_0 0 rfl rfl)
theorem dX0_rule_1 : decode cX0_rule 1 = .ok (.i2l, 1) := dk_133 (dk_at dksX0_rule_0 1 rfl rfl)
theorem dX0_rule_2 : decode cX0_rule 2 = .ok (.lconst 0, 1) := dk_9 (dk_at dksX0_rule_0 2 rfl rfl)
theorem dX0_rule_3 : decode cX0_rule 3 = .ok (.ldc2_w 99, 3) := dk_20 0 99 (dk_at dksX0_rule_0 3 rfl rfl)
theorem dX0_rule_6 : decode cX0_rule 6 = .ok (.invokestatic 89, 3) := dk_184 0 89 (dk_at dksX0_rule_0 6 rfl rfl)
theorem dX0_rule_9 : decode cX0_rule 9 = .ok (.ifCond .eq 24, 3) := dk_153 0 24 (dk_at dksX0_rule_0 9 rfl rfl)
theorem dX0_rule_12 : decode cX0_rule 12 = .ok (.iload_n 2, 1) := dk_28 (dk_at dksX0_rule_0 12 rfl rfl)
theorem dX0_rule_13 : decode cX0_rule 13 = .ok (.i2l, 1) := dk_133 (dk_at dksX0_rule_0 13 rfl rfl)
theorem dX0_rule_14 : decode cX0_rule 14 = .ok (.lconst 0, 1) := dk_9 (dk_at dksX0_rule_0 14 rfl rfl)
theorem dX0_rule_15 : decode cX0_rule 15 = .ok (.ldc2_w 202, 3) := dk_20 0 202 (dk_at dksX0_rule_0 15 rfl rfl)
theorem dX0_rule_18 : decode cX0_rule 18 = .ok (.invokestatic 89, 3) := dk_184 0 89 (dk_at dksX0_rule_0 18 rfl rfl)
theorem dX0_rule_21 : decode cX0_rule 21 = .ok (.ifCond .eq 12, 3) := dk_153 0 12 (dk_at dksX0_rule_0 21 rfl rfl)
theorem dX0_rule_24 : decode cX0_rule 24 = .ok (.aload_n 0, 1) := dk_42 (dk_at dksX0_rule_1 0 rfl rfl)
theorem dX0_rule_25 : decode cX0_rule 25 = .ok (.iload_n 1, 1) := dk_27 (dk_at dksX0_rule_1 1 rfl rfl)
theorem dX0_rule_26 : decode cX0_rule 26 = .ok (.iload_n 2, 1) := dk_28 (dk_at dksX0_rule_1 2 rfl rfl)
theorem dX0_rule_27 : decode cX0_rule 27 = .ok (.invokevirtual 204, 3) := dk_182 0 204 (dk_at dksX0_rule_1 3 rfl rfl)
theorem dX0_rule_30 : decode cX0_rule 30 = .ok (.goto 5, 3) := dk_167 0 5 (dk_at dksX0_rule_1 6 rfl rfl)
theorem dX0_rule_33 : decode cX0_rule 33 = .ok (.bipush (-2), 2) := dk_16 254 (dk_at dksX0_rule_1 9 rfl rfl)
theorem dX0_rule_35 : decode cX0_rule 35 = .ok (.ireturn, 1) := dk_172 (dk_at dksX0_rule_1 11 rfl rfl)
abbrev cX0_ruleOf : ByteArray := prog_1_method_23_code
def yX0_ruleOf : MethodName := ⟨RX0, "ruleOf", "(II)I"⟩
def dkwX0_ruleOf_2 : List UInt8 := [180, 0, 200, 27, 51, 153, 0, 7, 4, 167, 0, 4, 3, 172]
abbrev dktX0_ruleOf_2 : List UInt8 := dkwX0_ruleOf_2 ++ []
def dkwX0_ruleOf_1 : List UInt8 := [28, 4, 160, 0, 18, 42, 180, 0, 41, 180, 0, 197, 27, 51, 153, 0, 22, 167, 0, 15, 42, 180, 0, 41]
abbrev dktX0_ruleOf_1 : List UInt8 := dkwX0_ruleOf_1 ++ dktX0_ruleOf_2
def dkwX0_ruleOf_0 : List UInt8 := [42, 180, 0, 41, 182, 0, 156, 87, 28, 154, 0, 15, 42, 180, 0, 41, 180, 0, 194, 27, 46, 167, 0, 40]
abbrev dktX0_ruleOf_0 : List UInt8 := dkwX0_ruleOf_0 ++ dktX0_ruleOf_1
theorem dksX0_ruleOf_0 : cX0_ruleOf.data.toList.drop 0 = dktX0_ruleOf_0 := by decide +kernel
theorem dksX0_ruleOf_1 : cX0_ruleOf.data.toList.drop 24 = dktX0_ruleOf_1 := dk_seg dksX0_ruleOf_0 24 rfl rfl
theorem dksX0_ruleOf_2 : cX0_ruleOf.data.toList.drop 48 = dktX0_ruleOf_2 := dk_seg dksX0_ruleOf_1 24 rfl rfl
theorem dX0_ruleOf_0 : decode cX0_ruleOf 0 = .ok (.aload_n 0, 1) := dk_42 (dk_at dksX0_ruleOf_0 0 rfl rfl)
theorem dX0_ruleOf_1 : decode cX0_ruleOf 1 = .ok (.getfield 41, 3) := dk_180 0 41 (dk_at dksX0_ruleOf_0 1 rfl rfl)
theorem dX0_ruleOf_4 : decode cX0_ruleOf 4 = .ok (.invokevirtual 156, 3) := dk_182 0 156 (dk_at dksX0_ruleOf_0 4 rfl rfl)
theorem dX0_ruleOf_7 : decode cX0_ruleOf 7 = .ok (.pop, 1) := dk_87 (dk_at dksX0_ruleOf_0 7 rfl rfl)
theorem dX0_ruleOf_8 : decode cX0_ruleOf 8 = .ok (.iload_n 2, 1) := dk_28 (dk_at dksX0_ruleOf_0 8 rfl rfl)
theorem dX0_ruleOf_9 : decode cX0_ruleOf 9 = .ok (.ifCond .ne 15, 3) := dk_154 0 15 (dk_at dksX0_ruleOf_0 9 rfl rfl)
theorem dX0_ruleOf_12 : decode cX0_ruleOf 12 = .ok (.aload_n 0, 1) := dk_42 (dk_at dksX0_ruleOf_0 12 rfl rfl)
theorem dX0_ruleOf_13 : decode cX0_ruleOf 13 = .ok (.getfield 41, 3) := dk_180 0 41 (dk_at dksX0_ruleOf_0 13 rfl rfl)
theorem dX0_ruleOf_16 : decode cX0_ruleOf 16 = .ok (.getfield 194, 3) := dk_180 0 194 (dk_at dksX0_ruleOf_0 16 rfl rfl)
theorem dX0_ruleOf_19 : decode cX0_ruleOf 19 = .ok (.iload_n 1, 1) := dk_27 (dk_at dksX0_ruleOf_0 19 rfl rfl)
theorem dX0_ruleOf_20 : decode cX0_ruleOf 20 = .ok (.iaload, 1) := dk_46 (dk_at dksX0_ruleOf_0 20 rfl rfl)
theorem dX0_ruleOf_21 : decode cX0_ruleOf 21 = .ok (.goto 40, 3) := dk_167 0 40 (dk_at dksX0_ruleOf_0 21 rfl rfl)
theorem dX0_ruleOf_24 : decode cX0_ruleOf 24 = .ok (.iload_n 2, 1) := dk_28 (dk_at dksX0_ruleOf_1 0 rfl rfl)
theorem dX0_ruleOf_25 : decode cX0_ruleOf 25 = .ok (.iconst 1, 1) := dk_4 (dk_at dksX0_ruleOf_1 1 rfl rfl)
theorem dX0_ruleOf_26 : decode cX0_ruleOf 26 = .ok (.if_icmp .ne 18, 3) := dk_160 0 18 (dk_at dksX0_ruleOf_1 2 rfl rfl)
theorem dX0_ruleOf_29 : decode cX0_ruleOf 29 = .ok (.aload_n 0, 1) := dk_42 (dk_at dksX0_ruleOf_1 5 rfl rfl)
theorem dX0_ruleOf_30 : decode cX0_ruleOf 30 = .ok (.getfield 41, 3) := dk_180 0 41 (dk_at dksX0_ruleOf_1 6 rfl rfl)
theorem dX0_ruleOf_33 : decode cX0_ruleOf 33 = .ok (.getfield 197, 3) := dk_180 0 197 (dk_at dksX0_ruleOf_1 9 rfl rfl)
theorem dX0_ruleOf_36 : decode cX0_ruleOf 36 = .ok (.iload_n 1, 1) := dk_27 (dk_at dksX0_ruleOf_1 12 rfl rfl)
theorem dX0_ruleOf_37 : decode cX0_ruleOf 37 = .ok (.baload, 1) := dk_51 (dk_at dksX0_ruleOf_1 13 rfl rfl)
theorem dX0_ruleOf_38 : decode cX0_ruleOf 38 = .ok (.ifCond .eq 22, 3) := dk_153 0 22 (dk_at dksX0_ruleOf_1 14 rfl rfl)
theorem dX0_ruleOf_41 : decode cX0_ruleOf 41 = .ok (.goto 15, 3) := dk_167 0 15 (dk_at dksX0_ruleOf_1 17 rfl rfl)
theorem dX0_ruleOf_44 : decode cX0_ruleOf 44 = .ok (.aload_n 0, 1) := dk_42 (dk_at dksX0_ruleOf_1 20 rfl rfl)
theorem dX0_ruleOf_45 : decode cX0_ruleOf 45 = .ok (.getfield 41, 3) := dk_180 0 41 (dk_at dksX0_ruleOf_1 21 rfl rfl)
theorem dX0_ruleOf_48 : decode cX0_ruleOf 48 = .ok (.getfield 200, 3) := dk_180 0 200 (dk_at dksX0_ruleOf_2 0 rfl rfl)
theorem dX0_ruleOf_51 : decode cX0_ruleOf 51 = .ok (.iload_n 1, 1) := dk_27 (dk_at dksX0_ruleOf_2 3 rfl rfl)
theorem dX0_ruleOf_52 : decode cX0_ruleOf 52 = .ok (.baload, 1) := dk_51 (dk_at dksX0_ruleOf_2 4 rfl rfl)
theorem dX0_ruleOf_53 : decode cX0_ruleOf 53 = .ok (.ifCond .eq 7, 3) := dk_153 0 7 (dk_at dksX0_ruleOf_2 5 rfl rfl)
theorem dX0_ruleOf_56 : decode cX0_ruleOf 56 = .ok (.iconst 1, 1) := dk_4 (dk_at dksX0_ruleOf_2 8 rfl rfl)
theorem dX0_ruleOf_57 : decode cX0_ruleOf 57 = .ok (.goto 4, 3) := dk_167 0 4 (dk_at dksX0_ruleOf_2 9 rfl rfl)
theorem dX0_ruleOf_60 : decode cX0_ruleOf 60 = .ok (.iconst 0, 1) := dk_3 (dk_at dksX0_ruleOf_2 12 rfl rfl)
theorem dX0_ruleOf_61 : decode cX0_ruleOf 61 = .ok (.ireturn, 1) := dk_172 (dk_at dksX0_ruleOf_2 13 rfl rfl)
abbrev cX0_can : ByteArray := prog_1_method_32_code
def yX0_can : MethodName := ⟨RX0, "can", "(II)I"⟩
def dkwX0_can_1 : List UInt8 := [182, 0, 238, 153, 0, 7, 4, 167, 0, 9, 3, 167, 0, 5, 16, 254, 172]
abbrev dktX0_can_1 : List UInt8 := dkwX0_can_1 ++ []
def dkwX0_can_0 : List UInt8 := [42, 27, 182, 0, 186, 153, 0, 31, 28, 184, 0, 107, 153, 0, 24, 42, 42, 27, 182, 0, 168, 28]
abbrev dktX0_can_0 : List UInt8 := dkwX0_can_0 ++ dktX0_can_1
theorem dksX0_can_0 : cX0_can.data.toList.drop 0 = dktX0_can_0 := by decide +kernel
theorem dksX0_can_1 : cX0_can.data.toList.drop 22 = dktX0_can_1 := dk_seg dksX0_can_0 22 rfl rfl
theorem dX0_can_0 : decode cX0_can 0 = .ok (.aload_n 0, 1) := dk_42 (dk_at dksX0_can_0 0 rfl rfl)
theorem dX0_can_1 : decode cX0_can 1 = .ok (.iload_n 1, 1) := dk_27 (dk_at dksX0_can_0 1 rfl rfl)
theorem dX0_can_2 : decode cX0_can 2 = .ok (.invokevirtual 186, 3) := dk_182 0 186 (dk_at dksX0_can_0 2 rfl rfl)
theorem dX0_can_5 : decode cX0_can 5 = .ok (.ifCond .eq 31, 3) := dk_153 0 31 (dk_at dksX0_can_0 5 rfl rfl)
theorem dX0_can_8 : decode cX0_can 8 = .ok (.iload_n 2, 1) := dk_28 (dk_at dksX0_can_0 8 rfl rfl)
theorem dX0_can_9 : decode cX0_can 9 = .ok (.invokestatic 107, 3) := dk_184 0 107 (dk_at dksX0_can_0 9 rfl rfl)
theorem dX0_can_12 : decode cX0_can 12 = .ok (.ifCond .eq 24, 3) := dk_153 0 24 (dk_at dksX0_can_0 12 rfl rfl)
theorem dX0_can_15 : decode cX0_can 15 = .ok (.aload_n 0, 1) := dk_42 (dk_at dksX0_can_0 15 rfl rfl)
theorem dX0_can_16 : decode cX0_can 16 = .ok (.aload_n 0, 1) := dk_42 (dk_at dksX0_can_0 16 rfl rfl)
theorem dX0_can_17 : decode cX0_can 17 = .ok (.iload_n 1, 1) := dk_27 (dk_at dksX0_can_0 17 rfl rfl)
theorem dX0_can_18 : decode cX0_can 18 = .ok (.invokevirtual 168, 3) := dk_182 0 168 (dk_at dksX0_can_0 18 rfl rfl)
theorem dX0_can_21 : decode cX0_can 21 = .ok (.iload_n 2, 1) := dk_28 (dk_at dksX0_can_0 21 rfl rfl)
theorem dX0_can_22 : decode cX0_can 22 = .ok (.invokevirtual 238, 3) := dk_182 0 238 (dk_at dksX0_can_1 0 rfl rfl)
theorem dX0_can_25 : decode cX0_can 25 = .ok (.ifCond .eq 7, 3) := dk_153 0 7 (dk_at dksX0_can_1 3 rfl rfl)
theorem dX0_can_28 : decode cX0_can 28 = .ok (.iconst 1, 1) := dk_4 (dk_at dksX0_can_1 6 rfl rfl)
theorem dX0_can_29 : decode cX0_can 29 = .ok (.goto 9, 3) := dk_167 0 9 (dk_at dksX0_can_1 7 rfl rfl)
theorem dX0_can_32 : decode cX0_can 32 = .ok (.iconst 0, 1) := dk_3 (dk_at dksX0_can_1 10 rfl rfl)
theorem dX0_can_33 : decode cX0_can 33 = .ok (.goto 5, 3) := dk_167 0 5 (dk_at dksX0_can_1 11 rfl rfl)
theorem dX0_can_36 : decode cX0_can 36 = .ok (.bipush (-2), 2) := dk_16 254 (dk_at dksX0_can_1 14 rfl rfl)
theorem dX0_can_38 : decode cX0_can 38 = .ok (.ireturn, 1) := dk_172 (dk_at dksX0_can_1 16 rfl rfl)
abbrev cX0_canBe : ByteArray := prog_1_method_30_code
def yX0_canBe : MethodName := ⟨RX0, "canBe", "(LSecondChances$Deed;I)Z"⟩
def dkwX0_canBe_1 : List UInt8 := [153, 0, 13, 42, 180, 0, 24, 4, 46, 4, 160, 0, 7, 4, 167, 0, 4, 3, 172]
abbrev dktX0_canBe_1 : List UInt8 := dkwX0_canBe_1 ++ []
def dkwX0_canBe_0 : List UInt8 := [42, 43, 28, 182, 0, 230, 184, 0, 211, 42, 43, 182, 0, 219, 160, 0, 26, 42, 43, 28, 182, 0, 234]
abbrev dktX0_canBe_0 : List UInt8 := dkwX0_canBe_0 ++ dktX0_canBe_1
theorem dksX0_canBe_0 : cX0_canBe.data.toList.drop 0 = dktX0_canBe_0 := by decide +kernel
theorem dksX0_canBe_1 : cX0_canBe.data.toList.drop 23 = dktX0_canBe_1 := dk_seg dksX0_canBe_0 23 rfl rfl
theorem dX0_canBe_0 : decode cX0_canBe 0 = .ok (.aload_n 0, 1) := dk_42 (dk_at dksX0_canBe_0 0 rfl rfl)
theorem dX0_canBe_1 : decode cX0_canBe 1 = .ok (.aload_n 1, 1) := dk_43 (dk_at dksX0_canBe_0 1 rfl rfl)
theorem dX0_canBe_2 : decode cX0_canBe 2 = .ok (.iload_n 2, 1) := dk_28 (dk_at dksX0_canBe_0 2 rfl rfl)
theorem dX0_canBe_3 : decode cX0_canBe 3 = .ok (.invokevirtual 230, 3) := dk_182 0 230 (dk_at dksX0_canBe_0 3 rfl rfl)
theorem dX0_canBe_6 : decode cX0_canBe 6 = .ok (.invokestatic 211, 3) := dk_184 0 211 (dk_at dksX0_canBe_0 6 rfl rfl)
theorem dX0_canBe_9 : decode cX0_canBe 9 = .ok (.aload_n 0, 1) := dk_42 (dk_at dksX0_canBe_0 9 rfl rfl)
theorem dX0_canBe_10 : decode cX0_canBe 10 = .ok (.aload_n 1, 1) := dk_43 (dk_at dksX0_canBe_0 10 rfl rfl)
theorem dX0_canBe_11 : decode cX0_canBe 11 = .ok (.invokevirtual 219, 3) := dk_182 0 219 (dk_at dksX0_canBe_0 11 rfl rfl)
theorem dX0_canBe_14 : decode cX0_canBe 14 = .ok (.if_icmp .ne 26, 3) := dk_160 0 26 (dk_at dksX0_canBe_0 14 rfl rfl)
theorem dX0_canBe_17 : decode cX0_canBe 17 = .ok (.aload_n 0, 1) := dk_42 (dk_at dksX0_canBe_0 17 rfl rfl)
theorem dX0_canBe_18 : decode cX0_canBe 18 = .ok (.aload_n 1, 1) := dk_43 (dk_at dksX0_canBe_0 18 rfl rfl)
theorem dX0_canBe_19 : decode cX0_canBe 19 = .ok (.iload_n 2, 1) := dk_28 (dk_at dksX0_canBe_0 19 rfl rfl)
theorem dX0_canBe_20 : decode cX0_canBe 20 = .ok (.invokevirtual 234, 3) := dk_182 0 234 (dk_at dksX0_canBe_0 20 rfl rfl)
theorem dX0_canBe_23 : decode cX0_canBe 23 = .ok (.ifCond .eq 13, 3) := dk_153 0 13 (dk_at dksX0_canBe_1 0 rfl rfl)
theorem dX0_canBe_26 : decode cX0_canBe 26 = .ok (.aload_n 0, 1) := dk_42 (dk_at dksX0_canBe_1 3 rfl rfl)
theorem dX0_canBe_27 : decode cX0_canBe 27 = .ok (.getfield 24, 3) := dk_180 0 24 (dk_at dksX0_canBe_1 4 rfl rfl)
theorem dX0_canBe_30 : decode cX0_canBe 30 = .ok (.iconst 1, 1) := dk_4 (dk_at dksX0_canBe_1 7 rfl rfl)
theorem dX0_canBe_31 : decode cX0_canBe 31 = .ok (.iaload, 1) := dk_46 (dk_at dksX0_canBe_1 8 rfl rfl)
theorem dX0_canBe_32 : decode cX0_canBe 32 = .ok (.iconst 1, 1) := dk_4 (dk_at dksX0_canBe_1 9 rfl rfl)
theorem dX0_canBe_33 : decode cX0_canBe 33 = .ok (.if_icmp .ne 7, 3) := dk_160 0 7 (dk_at dksX0_canBe_1 10 rfl rfl)
theorem dX0_canBe_36 : decode cX0_canBe 36 = .ok (.iconst 1, 1) := dk_4 (dk_at dksX0_canBe_1 13 rfl rfl)
theorem dX0_canBe_37 : decode cX0_canBe 37 = .ok (.goto 4, 3) := dk_167 0 4 (dk_at dksX0_canBe_1 14 rfl rfl)
theorem dX0_canBe_40 : decode cX0_canBe 40 = .ok (.iconst 0, 1) := dk_3 (dk_at dksX0_canBe_1 17 rfl rfl)
theorem dX0_canBe_41 : decode cX0_canBe 41 = .ok (.ireturn, 1) := dk_172 (dk_at dksX0_canBe_1 18 rfl rfl)
abbrev cX0_comers : ByteArray := prog_1_method_29_code
def yX0_comers : MethodName := ⟨RX0, "comers", "(LSecondChances$Deed;I)I"⟩
def dkwX0_comers_6 : List UInt8 := [172]
abbrev dktX0_comers_6 : List UInt8 := dkwX0_comers_6 ++ []
def dkwX0_comers_5 : List UInt8 := [29, 21, 5, 2, 160, 0, 7, 3, 167, 0, 7, 4, 21, 5, 120, 128, 62, 132, 4, 255, 167, 255, 128, 29]
abbrev dktX0_comers_5 : List UInt8 := dkwX0_comers_5 ++ dktX0_comers_6
def dkwX0_comers_4 : List UInt8 := [180, 0, 14, 21, 5, 50, 180, 0, 104, 5, 46, 162, 0, 7, 21, 6, 54, 5, 132, 6, 1, 167, 255, 162]
abbrev dktX0_comers_4 : List UInt8 := dkwX0_comers_4 ++ dktX0_comers_5
def dkwX0_comers_3 : List UInt8 := [153, 0, 40, 21, 5, 2, 159, 0, 30, 42, 180, 0, 14, 21, 6, 50, 180, 0, 104, 5, 46, 42]
abbrev dktX0_comers_3 : List UInt8 := dkwX0_comers_3 ++ dktX0_comers_4
def dkwX0_comers_2 : List UInt8 := [42, 180, 0, 14, 21, 6, 50, 28, 182, 0, 227, 153, 0, 7, 4, 167, 0, 4, 3, 54, 7, 21, 7]
abbrev dktX0_comers_2 : List UInt8 := dkwX0_comers_2 ++ dktX0_comers_3
def dkwX0_comers_1 : List UInt8 := [162, 0, 93, 43, 180, 0, 183, 21, 6, 184, 0, 223, 153, 0, 30, 29, 21, 6, 184, 0, 223, 154, 0, 21]
abbrev dktX0_comers_1 : List UInt8 := dkwX0_comers_1 ++ dktX0_comers_2
def dkwX0_comers_0 : List UInt8 := [3, 62, 42, 43, 182, 0, 219, 54, 4, 21, 4, 158, 0, 129, 2, 54, 5, 3, 54, 6, 21, 6, 16, 8]
abbrev dktX0_comers_0 : List UInt8 := dkwX0_comers_0 ++ dktX0_comers_1
theorem dksX0_comers_0 : cX0_comers.data.toList.drop 0 = dktX0_comers_0 := by decide +kernel
theorem dksX0_comers_1 : cX0_comers.data.toList.drop 24 = dktX0_comers_1 := dk_seg dksX0_comers_0 24 rfl rfl
theorem dksX0_comers_2 : cX0_comers.data.toList.drop 48 = dktX0_comers_2 := dk_seg dksX0_comers_1 24 rfl rfl
theorem dksX0_comers_3 : cX0_comers.data.toList.drop 71 = dktX0_comers_3 := dk_seg dksX0_comers_2 23 rfl rfl
theorem dksX0_comers_4 : cX0_comers.data.toList.drop 93 = dktX0_comers_4 := dk_seg dksX0_comers_3 22 rfl rfl
theorem dksX0_comers_5 : cX0_comers.data.toList.drop 117 = dktX0_comers_5 := dk_seg dksX0_comers_4 24 rfl rfl
theorem dksX0_comers_6 : cX0_comers.data.toList.drop 141 = dktX0_comers_6 := dk_seg dksX0_comers_5 24 rfl rfl
theorem dX0_comers_0 : decode cX0_comers 0 = .ok (.iconst 0, 1) := dk_3 (dk_at dksX0_comers_0 0 rfl rfl)
theorem dX0_comers_1 : decode cX0_comers 1 = .ok (.istore_n 3, 1) := dk_62 (dk_at dksX0_comers_0 1 rfl rfl)
theorem dX0_comers_2 : decode cX0_comers 2 = .ok (.aload_n 0, 1) := dk_42 (dk_at dksX0_comers_0 2 rfl rfl)
theorem dX0_comers_3 : decode cX0_comers 3 = .ok (.aload_n 1, 1) := dk_43 (dk_at dksX0_comers_0 3 rfl rfl)
theorem dX0_comers_4 : decode cX0_comers 4 = .ok (.invokevirtual 219, 3) := dk_182 0 219 (dk_at dksX0_comers_0 4 rfl rfl)
theorem dX0_comers_7 : decode cX0_comers 7 = .ok (.istore 4, 2) := dk_54 4 (dk_at dksX0_comers_0 7 rfl rfl)
theorem dX0_comers_9 : decode cX0_comers 9 = .ok (.iload 4, 2) := dk_21 4 (dk_at dksX0_comers_0 9 rfl rfl)
theorem dX0_comers_11 : decode cX0_comers 11 = .ok (.ifCond .le 129, 3) := dk_158 0 129 (dk_at dksX0_comers_0 11 rfl rfl)
theorem dX0_comers_14 : decode cX0_comers 14 = .ok (.iconst (-1), 1) := dk_2 (dk_at dksX0_comers_0 14 rfl rfl)
theorem dX0_comers_15 : decode cX0_comers 15 = .ok (.istore 5, 2) := dk_54 5 (dk_at dksX0_comers_0 15 rfl rfl)
theorem dX0_comers_17 : decode cX0_comers 17 = .ok (.iconst 0, 1) := dk_3 (dk_at dksX0_comers_0 17 rfl rfl)
theorem dX0_comers_18 : decode cX0_comers 18 = .ok (.istore 6, 2) := dk_54 6 (dk_at dksX0_comers_0 18 rfl rfl)
theorem dX0_comers_20 : decode cX0_comers 20 = .ok (.iload 6, 2) := dk_21 6 (dk_at dksX0_comers_0 20 rfl rfl)
theorem dX0_comers_22 : decode cX0_comers 22 = .ok (.bipush 8, 2) := dk_16 8 (dk_at dksX0_comers_0 22 rfl rfl)
theorem dX0_comers_24 : decode cX0_comers 24 = .ok (.if_icmp .ge 93, 3) := dk_162 0 93 (dk_at dksX0_comers_1 0 rfl rfl)
theorem dX0_comers_27 : decode cX0_comers 27 = .ok (.aload_n 1, 1) := dk_43 (dk_at dksX0_comers_1 3 rfl rfl)
theorem dX0_comers_28 : decode cX0_comers 28 = .ok (.getfield 183, 3) := dk_180 0 183 (dk_at dksX0_comers_1 4 rfl rfl)
theorem dX0_comers_31 : decode cX0_comers 31 = .ok (.iload 6, 2) := dk_21 6 (dk_at dksX0_comers_1 7 rfl rfl)
theorem dX0_comers_33 : decode cX0_comers 33 = .ok (.invokestatic 223, 3) := dk_184 0 223 (dk_at dksX0_comers_1 9 rfl rfl)
theorem dX0_comers_36 : decode cX0_comers 36 = .ok (.ifCond .eq 30, 3) := dk_153 0 30 (dk_at dksX0_comers_1 12 rfl rfl)
theorem dX0_comers_39 : decode cX0_comers 39 = .ok (.iload_n 3, 1) := dk_29 (dk_at dksX0_comers_1 15 rfl rfl)
theorem dX0_comers_40 : decode cX0_comers 40 = .ok (.iload 6, 2) := dk_21 6 (dk_at dksX0_comers_1 16 rfl rfl)
theorem dX0_comers_42 : decode cX0_comers 42 = .ok (.invokestatic 223, 3) := dk_184 0 223 (dk_at dksX0_comers_1 18 rfl rfl)
theorem dX0_comers_45 : decode cX0_comers 45 = .ok (.ifCond .ne 21, 3) := dk_154 0 21 (dk_at dksX0_comers_1 21 rfl rfl)
theorem dX0_comers_48 : decode cX0_comers 48 = .ok (.aload_n 0, 1) := dk_42 (dk_at dksX0_comers_2 0 rfl rfl)
theorem dX0_comers_49 : decode cX0_comers 49 = .ok (.getfield 14, 3) := dk_180 0 14 (dk_at dksX0_comers_2 1 rfl rfl)
theorem dX0_comers_52 : decode cX0_comers 52 = .ok (.iload 6, 2) := dk_21 6 (dk_at dksX0_comers_2 4 rfl rfl)
theorem dX0_comers_54 : decode cX0_comers 54 = .ok (.aaload, 1) := dk_50 (dk_at dksX0_comers_2 6 rfl rfl)
theorem dX0_comers_55 : decode cX0_comers 55 = .ok (.iload_n 2, 1) := dk_28 (dk_at dksX0_comers_2 7 rfl rfl)
theorem dX0_comers_56 : decode cX0_comers 56 = .ok (.invokevirtual 227, 3) := dk_182 0 227 (dk_at dksX0_comers_2 8 rfl rfl)
theorem dX0_comers_59 : decode cX0_comers 59 = .ok (.ifCond .eq 7, 3) := dk_153 0 7 (dk_at dksX0_comers_2 11 rfl rfl)
theorem dX0_comers_62 : decode cX0_comers 62 = .ok (.iconst 1, 1) := dk_4 (dk_at dksX0_comers_2 14 rfl rfl)
theorem dX0_comers_63 : decode cX0_comers 63 = .ok (.goto 4, 3) := dk_167 0 4 (dk_at dksX0_comers_2 15 rfl rfl)
theorem dX0_comers_66 : decode cX0_comers 66 = .ok (.iconst 0, 1) := dk_3 (dk_at dksX0_comers_2 18 rfl rfl)
theorem dX0_comers_67 : decode cX0_comers 67 = .ok (.istore 7, 2) := dk_54 7 (dk_at dksX0_comers_2 19 rfl rfl)
theorem dX0_comers_69 : decode cX0_comers 69 = .ok (.iload 7, 2) := dk_21 7 (dk_at dksX0_comers_2 21 rfl rfl)
theorem dX0_comers_71 : decode cX0_comers 71 = .ok (.ifCond .eq 40, 3) := dk_153 0 40 (dk_at dksX0_comers_3 0 rfl rfl)
theorem dX0_comers_74 : decode cX0_comers 74 = .ok (.iload 5, 2) := dk_21 5 (dk_at dksX0_comers_3 3 rfl rfl)
theorem dX0_comers_76 : decode cX0_comers 76 = .ok (.iconst (-1), 1) := dk_2 (dk_at dksX0_comers_3 5 rfl rfl)
theorem dX0_comers_77 : decode cX0_comers 77 = .ok (.if_icmp .eq 30, 3) := dk_159 0 30 (dk_at dksX0_comers_3 6 rfl rfl)
theorem dX0_comers_80 : decode cX0_comers 80 = .ok (.aload_n 0, 1) := dk_42 (dk_at dksX0_comers_3 9 rfl rfl)
theorem dX0_comers_81 : decode cX0_comers 81 = .ok (.getfield 14, 3) := dk_180 0 14 (dk_at dksX0_comers_3 10 rfl rfl)
theorem dX0_comers_84 : decode cX0_comers 84 = .ok (.iload 6, 2) := dk_21 6 (dk_at dksX0_comers_3 13 rfl rfl)
theorem dX0_comers_86 : decode cX0_comers 86 = .ok (.aaload, 1) := dk_50 (dk_at dksX0_comers_3 15 rfl rfl)
theorem dX0_comers_87 : decode cX0_comers 87 = .ok (.getfield 104, 3) := dk_180 0 104 (dk_at dksX0_comers_3 16 rfl rfl)
theorem dX0_comers_90 : decode cX0_comers 90 = .ok (.iconst 2, 1) := dk_5 (dk_at dksX0_comers_3 19 rfl rfl)
theorem dX0_comers_91 : decode cX0_comers 91 = .ok (.iaload, 1) := dk_46 (dk_at dksX0_comers_3 20 rfl rfl)
theorem dX0_comers_92 : decode cX0_comers 92 = .ok (.aload_n 0, 1) := dk_42 (dk_at dksX0_comers_3 21 rfl rfl)
theorem dX0_comers_93 : decode cX0_comers 93 = .ok (.getfield 14, 3) := dk_180 0 14 (dk_at dksX0_comers_4 0 rfl rfl)
theorem dX0_comers_96 : decode cX0_comers 96 = .ok (.iload 5, 2) := dk_21 5 (dk_at dksX0_comers_4 3 rfl rfl)
theorem dX0_comers_98 : decode cX0_comers 98 = .ok (.aaload, 1) := dk_50 (dk_at dksX0_comers_4 5 rfl rfl)
theorem dX0_comers_99 : decode cX0_comers 99 = .ok (.getfield 104, 3) := dk_180 0 104 (dk_at dksX0_comers_4 6 rfl rfl)
theorem dX0_comers_102 : decode cX0_comers 102 = .ok (.iconst 2, 1) := dk_5 (dk_at dksX0_comers_4 9 rfl rfl)
theorem dX0_comers_103 : decode cX0_comers 103 = .ok (.iaload, 1) := dk_46 (dk_at dksX0_comers_4 10 rfl rfl)
theorem dX0_comers_104 : decode cX0_comers 104 = .ok (.if_icmp .ge 7, 3) := dk_162 0 7 (dk_at dksX0_comers_4 11 rfl rfl)
theorem dX0_comers_107 : decode cX0_comers 107 = .ok (.iload 6, 2) := dk_21 6 (dk_at dksX0_comers_4 14 rfl rfl)
theorem dX0_comers_109 : decode cX0_comers 109 = .ok (.istore 5, 2) := dk_54 5 (dk_at dksX0_comers_4 16 rfl rfl)
theorem dX0_comers_111 : decode cX0_comers 111 = .ok (.iinc 6 1, 3) := dk_132 6 1 (dk_at dksX0_comers_4 18 rfl rfl)
theorem dX0_comers_114 : decode cX0_comers 114 = .ok (.goto (-94), 3) := dk_167 255 162 (dk_at dksX0_comers_4 21 rfl rfl)
theorem dX0_comers_117 : decode cX0_comers 117 = .ok (.iload_n 3, 1) := dk_29 (dk_at dksX0_comers_5 0 rfl rfl)
theorem dX0_comers_118 : decode cX0_comers 118 = .ok (.iload 5, 2) := dk_21 5 (dk_at dksX0_comers_5 1 rfl rfl)
theorem dX0_comers_120 : decode cX0_comers 120 = .ok (.iconst (-1), 1) := dk_2 (dk_at dksX0_comers_5 3 rfl rfl)
theorem dX0_comers_121 : decode cX0_comers 121 = .ok (.if_icmp .ne 7, 3) := dk_160 0 7 (dk_at dksX0_comers_5 4 rfl rfl)
theorem dX0_comers_124 : decode cX0_comers 124 = .ok (.iconst 0, 1) := dk_3 (dk_at dksX0_comers_5 7 rfl rfl)
theorem dX0_comers_125 : decode cX0_comers 125 = .ok (.goto 7, 3) := dk_167 0 7 (dk_at dksX0_comers_5 8 rfl rfl)
theorem dX0_comers_128 : decode cX0_comers 128 = .ok (.iconst 1, 1) := dk_4 (dk_at dksX0_comers_5 11 rfl rfl)
theorem dX0_comers_129 : decode cX0_comers 129 = .ok (.iload 5, 2) := dk_21 5 (dk_at dksX0_comers_5 12 rfl rfl)
theorem dX0_comers_131 : decode cX0_comers 131 = .ok (.ishl, 1) := dk_120 (dk_at dksX0_comers_5 14 rfl rfl)
theorem dX0_comers_132 : decode cX0_comers 132 = .ok (.ior, 1) := dk_128 (dk_at dksX0_comers_5 15 rfl rfl)
theorem dX0_comers_133 : decode cX0_comers 133 = .ok (.istore_n 3, 1) := dk_62 (dk_at dksX0_comers_5 16 rfl rfl)
theorem dX0_comers_134 : decode cX0_comers 134 = .ok (.iinc 4 (-1), 3) := dk_132 4 255 (dk_at dksX0_comers_5 17 rfl rfl)
theorem dX0_comers_137 : decode cX0_comers 137 = .ok (.goto (-128), 3) := dk_167 255 128 (dk_at dksX0_comers_5 20 rfl rfl)
theorem dX0_comers_140 : decode cX0_comers 140 = .ok (.iload_n 3, 1) := dk_29 (dk_at dksX0_comers_5 23 rfl rfl)
theorem dX0_comers_141 : decode cX0_comers 141 = .ok (.ireturn, 1) := dk_172 (dk_at dksX0_comers_6 0 rfl rfl)
abbrev cX0_needed : ByteArray := prog_1_method_28_code
def yX0_needed : MethodName := ⟨RX0, "needed", "(LSecondChances$Deed;)I"⟩
def dkwX0_needed_0 : List UInt8 := [42, 180, 0, 41, 180, 0, 194, 43, 180, 0, 172, 46, 43, 180, 0, 183, 184, 0, 211, 184, 0, 214, 172]
abbrev dktX0_needed_0 : List UInt8 := dkwX0_needed_0 ++ []
theorem dksX0_needed_0 : cX0_needed.data.toList.drop 0 = dktX0_needed_0 := by decide +kernel
theorem dX0_needed_0 : decode cX0_needed 0 = .ok (.aload_n 0, 1) := dk_42 (dk_at dksX0_needed_0 0 rfl rfl)
theorem dX0_needed_1 : decode cX0_needed 1 = .ok (.getfield 41, 3) := dk_180 0 41 (dk_at dksX0_needed_0 1 rfl rfl)
theorem dX0_needed_4 : decode cX0_needed 4 = .ok (.getfield 194, 3) := dk_180 0 194 (dk_at dksX0_needed_0 4 rfl rfl)
theorem dX0_needed_7 : decode cX0_needed 7 = .ok (.aload_n 1, 1) := dk_43 (dk_at dksX0_needed_0 7 rfl rfl)
theorem dX0_needed_8 : decode cX0_needed 8 = .ok (.getfield 172, 3) := dk_180 0 172 (dk_at dksX0_needed_0 8 rfl rfl)
theorem dX0_needed_11 : decode cX0_needed 11 = .ok (.iaload, 1) := dk_46 (dk_at dksX0_needed_0 11 rfl rfl)
theorem dX0_needed_12 : decode cX0_needed 12 = .ok (.aload_n 1, 1) := dk_43 (dk_at dksX0_needed_0 12 rfl rfl)
theorem dX0_needed_13 : decode cX0_needed 13 = .ok (.getfield 183, 3) := dk_180 0 183 (dk_at dksX0_needed_0 13 rfl rfl)
theorem dX0_needed_16 : decode cX0_needed 16 = .ok (.invokestatic 211, 3) := dk_184 0 211 (dk_at dksX0_needed_0 16 rfl rfl)
theorem dX0_needed_19 : decode cX0_needed 19 = .ok (.invokestatic 214, 3) := dk_184 0 214 (dk_at dksX0_needed_0 19 rfl rfl)
theorem dX0_needed_22 : decode cX0_needed 22 = .ok (.ireturn, 1) := dk_172 (dk_at dksX0_needed_0 22 rfl rfl)
abbrev cX0_isTurned : ByteArray := prog_1_method_27_code
def yX0_isTurned : MethodName := ⟨RX0, "isTurned", "(LSecondChances$Deed;I)Z"⟩
def dkwX0_isTurned_1 : List UInt8 := [167, 0, 4, 3, 172]
abbrev dktX0_isTurned_1 : List UInt8 := dkwX0_isTurned_1 ++ []
def dkwX0_isTurned_0 : List UInt8 := [42, 43, 182, 0, 207, 153, 0, 20, 42, 180, 0, 20, 28, 46, 43, 180, 0, 178, 159, 0, 7, 4]
abbrev dktX0_isTurned_0 : List UInt8 := dkwX0_isTurned_0 ++ dktX0_isTurned_1
theorem dksX0_isTurned_0 : cX0_isTurned.data.toList.drop 0 = dktX0_isTurned_0 := by decide +kernel
theorem dksX0_isTurned_1 : cX0_isTurned.data.toList.drop 22 = dktX0_isTurned_1 := dk_seg dksX0_isTurned_0 22 rfl rfl
theorem dX0_isTurned_0 : decode cX0_isTurned 0 = .ok (.aload_n 0, 1) := dk_42 (dk_at dksX0_isTurned_0 0 rfl rfl)
theorem dX0_isTurned_1 : decode cX0_isTurned 1 = .ok (.aload_n 1, 1) := dk_43 (dk_at dksX0_isTurned_0 1 rfl rfl)
theorem dX0_isTurned_2 : decode cX0_isTurned 2 = .ok (.invokevirtual 207, 3) := dk_182 0 207 (dk_at dksX0_isTurned_0 2 rfl rfl)
theorem dX0_isTurned_5 : decode cX0_isTurned 5 = .ok (.ifCond .eq 20, 3) := dk_153 0 20 (dk_at dksX0_isTurned_0 5 rfl rfl)
theorem dX0_isTurned_8 : decode cX0_isTurned 8 = .ok (.aload_n 0, 1) := dk_42 (dk_at dksX0_isTurned_0 8 rfl rfl)
theorem dX0_isTurned_9 : decode cX0_isTurned 9 = .ok (.getfield 20, 3) := dk_180 0 20 (dk_at dksX0_isTurned_0 9 rfl rfl)
theorem dX0_isTurned_12 : decode cX0_isTurned 12 = .ok (.iload_n 2, 1) := dk_28 (dk_at dksX0_isTurned_0 12 rfl rfl)
theorem dX0_isTurned_13 : decode cX0_isTurned 13 = .ok (.iaload, 1) := dk_46 (dk_at dksX0_isTurned_0 13 rfl rfl)
theorem dX0_isTurned_14 : decode cX0_isTurned 14 = .ok (.aload_n 1, 1) := dk_43 (dk_at dksX0_isTurned_0 14 rfl rfl)
theorem dX0_isTurned_15 : decode cX0_isTurned 15 = .ok (.getfield 178, 3) := dk_180 0 178 (dk_at dksX0_isTurned_0 15 rfl rfl)
theorem dX0_isTurned_18 : decode cX0_isTurned 18 = .ok (.if_icmp .eq 7, 3) := dk_159 0 7 (dk_at dksX0_isTurned_0 18 rfl rfl)
theorem dX0_isTurned_21 : decode cX0_isTurned 21 = .ok (.iconst 1, 1) := dk_4 (dk_at dksX0_isTurned_0 21 rfl rfl)
theorem dX0_isTurned_22 : decode cX0_isTurned 22 = .ok (.goto 4, 3) := dk_167 0 4 (dk_at dksX0_isTurned_1 0 rfl rfl)
theorem dX0_isTurned_25 : decode cX0_isTurned 25 = .ok (.iconst 0, 1) := dk_3 (dk_at dksX0_isTurned_1 3 rfl rfl)
theorem dX0_isTurned_26 : decode cX0_isTurned 26 = .ok (.ireturn, 1) := dk_172 (dk_at dksX0_isTurned_1 4 rfl rfl)
abbrev cX0_asksWeather : ByteArray := prog_1_method_25_code
def yX0_asksWeather : MethodName := ⟨RX0, "asksWeather", "(LSecondChances$Deed;)Z"⟩
def dkwX0_asksWeather_0 : List UInt8 := [42, 180, 0, 41, 180, 0, 197, 43, 180, 0, 172, 51, 172]
abbrev dktX0_asksWeather_0 : List UInt8 := dkwX0_asksWeather_0 ++ []
theorem dksX0_asksWeather_0 : cX0_asksWeather.data.toList.drop 0 = dktX0_asksWeather_0 := by decide +kernel
theorem dX0_asksWeather_0 : decode cX0_asksWeather 0 = .ok (.aload_n 0, 1) := dk_42 (dk_at dksX0_asksWeather_0 0 rfl rfl)
theorem dX0_asksWeather_1 : decode cX0_asksWeather 1 = .ok (.getfield 41, 3) := dk_180 0 41 (dk_at dksX0_asksWeather_0 1 rfl rfl)
theorem dX0_asksWeather_4 : decode cX0_asksWeather 4 = .ok (.getfield 197, 3) := dk_180 0 197 (dk_at dksX0_asksWeather_0 4 rfl rfl)
theorem dX0_asksWeather_7 : decode cX0_asksWeather 7 = .ok (.aload_n 1, 1) := dk_43 (dk_at dksX0_asksWeather_0 7 rfl rfl)
theorem dX0_asksWeather_8 : decode cX0_asksWeather 8 = .ok (.getfield 172, 3) := dk_180 0 172 (dk_at dksX0_asksWeather_0 8 rfl rfl)
theorem dX0_asksWeather_11 : decode cX0_asksWeather 11 = .ok (.baload, 1) := dk_51 (dk_at dksX0_asksWeather_0 11 rfl rfl)
theorem dX0_asksWeather_12 : decode cX0_asksWeather 12 = .ok (.ireturn, 1) := dk_172 (dk_at dksX0_asksWeather_0 12 rfl rfl)
abbrev cX0_hours : ByteArray := prog_1_method_34_code
def yX0_hours : MethodName := ⟨RX0, "hours", "(I)I"⟩
def dkwX0_hours_0 : List UInt8 := [42, 27, 182, 0, 186, 153, 0, 11, 42, 27, 182, 0, 241, 167, 0, 5, 16, 254, 172]
abbrev dktX0_hours_0 : List UInt8 := dkwX0_hours_0 ++ []
theorem dksX0_hours_0 : cX0_hours.data.toList.drop 0 = dktX0_hours_0 := by decide +kernel
theorem dX0_hours_0 : decode cX0_hours 0 = .ok (.aload_n 0, 1) := dk_42 (dk_at dksX0_hours_0 0 rfl rfl)
theorem dX0_hours_1 : decode cX0_hours 1 = .ok (.iload_n 1, 1) := dk_27 (dk_at dksX0_hours_0 1 rfl rfl)
theorem dX0_hours_2 : decode cX0_hours 2 = .ok (.invokevirtual 186, 3) := dk_182 0 186 (dk_at dksX0_hours_0 2 rfl rfl)
theorem dX0_hours_5 : decode cX0_hours 5 = .ok (.ifCond .eq 11, 3) := dk_153 0 11 (dk_at dksX0_hours_0 5 rfl rfl)
theorem dX0_hours_8 : decode cX0_hours 8 = .ok (.aload_n 0, 1) := dk_42 (dk_at dksX0_hours_0 8 rfl rfl)
theorem dX0_hours_9 : decode cX0_hours 9 = .ok (.iload_n 1, 1) := dk_27 (dk_at dksX0_hours_0 9 rfl rfl)
theorem dX0_hours_10 : decode cX0_hours 10 = .ok (.invokevirtual 241, 3) := dk_182 0 241 (dk_at dksX0_hours_0 10 rfl rfl)
theorem dX0_hours_13 : decode cX0_hours 13 = .ok (.goto 5, 3) := dk_167 0 5 (dk_at dksX0_hours_0 13 rfl rfl)
theorem dX0_hours_16 : decode cX0_hours 16 = .ok (.bipush (-2), 2) := dk_16 254 (dk_at dksX0_hours_0 16 rfl rfl)
theorem dX0_hours_18 : decode cX0_hours 18 = .ok (.ireturn, 1) := dk_172 (dk_at dksX0_hours_0 18 rfl rfl)
abbrev cX0_hoursOf : ByteArray := prog_1_method_33_code
def yX0_hoursOf : MethodName := ⟨RX0, "hoursOf", "(I)I"⟩
def dkwX0_hoursOf_1 : List UInt8 := [4, 29, 120, 167, 0, 4, 3, 128, 61, 132, 3, 1, 167, 255, 224, 28, 172]
abbrev dktX0_hoursOf_1 : List UInt8 := dkwX0_hoursOf_1 ++ []
def dkwX0_hoursOf_0 : List UInt8 := [3, 61, 3, 62, 29, 16, 8, 162, 0, 32, 28, 42, 42, 27, 182, 0, 168, 29, 182, 0, 238, 153, 0, 9]
abbrev dktX0_hoursOf_0 : List UInt8 := dkwX0_hoursOf_0 ++ dktX0_hoursOf_1
theorem dksX0_hoursOf_0 : cX0_hoursOf.data.toList.drop 0 = dktX0_hoursOf_0 := by decide +kernel
theorem dksX0_hoursOf_1 : cX0_hoursOf.data.toList.drop 24 = dktX0_hoursOf_1 := dk_seg dksX0_hoursOf_0 24 rfl rfl
theorem dX0_hoursOf_0 : decode cX0_hoursOf 0 = .ok (.iconst 0, 1) := dk_3 (dk_at dksX0_hoursOf_0 0 rfl rfl)
theorem dX0_hoursOf_1 : decode cX0_hoursOf 1 = .ok (.istore_n 2, 1) := dk_61 (dk_at dksX0_hoursOf_0 1 rfl rfl)
theorem dX0_hoursOf_2 : decode cX0_hoursOf 2 = .ok (.iconst 0, 1) := dk_3 (dk_at dksX0_hoursOf_0 2 rfl rfl)
theorem dX0_hoursOf_3 : decode cX0_hoursOf 3 = .ok (.istore_n 3, 1) := dk_62 (dk_at dksX0_hoursOf_0 3 rfl rfl)
theorem dX0_hoursOf_4 : decode cX0_hoursOf 4 = .ok (.iload_n 3, 1) := dk_29 (dk_at dksX0_hoursOf_0 4 rfl rfl)
theorem dX0_hoursOf_5 : decode cX0_hoursOf 5 = .ok (.bipush 8, 2) := dk_16 8 (dk_at dksX0_hoursOf_0 5 rfl rfl)
theorem dX0_hoursOf_7 : decode cX0_hoursOf 7 = .ok (.if_icmp .ge 32, 3) := dk_162 0 32 (dk_at dksX0_hoursOf_0 7 rfl rfl)
theorem dX0_hoursOf_10 : decode cX0_hoursOf 10 = .ok (.iload_n 2, 1) := dk_28 (dk_at dksX0_hoursOf_0 10 rfl rfl)
theorem dX0_hoursOf_11 : decode cX0_hoursOf 11 = .ok (.aload_n 0, 1) := dk_42 (dk_at dksX0_hoursOf_0 11 rfl rfl)
theorem dX0_hoursOf_12 : decode cX0_hoursOf 12 = .ok (.aload_n 0, 1) := dk_42 (dk_at dksX0_hoursOf_0 12 rfl rfl)
theorem dX0_hoursOf_13 : decode cX0_hoursOf 13 = .ok (.iload_n 1, 1) := dk_27 (dk_at dksX0_hoursOf_0 13 rfl rfl)
theorem dX0_hoursOf_14 : decode cX0_hoursOf 14 = .ok (.invokevirtual 168, 3) := dk_182 0 168 (dk_at dksX0_hoursOf_0 14 rfl rfl)
theorem dX0_hoursOf_17 : decode cX0_hoursOf 17 = .ok (.iload_n 3, 1) := dk_29 (dk_at dksX0_hoursOf_0 17 rfl rfl)
theorem dX0_hoursOf_18 : decode cX0_hoursOf 18 = .ok (.invokevirtual 238, 3) := dk_182 0 238 (dk_at dksX0_hoursOf_0 18 rfl rfl)
theorem dX0_hoursOf_21 : decode cX0_hoursOf 21 = .ok (.ifCond .eq 9, 3) := dk_153 0 9 (dk_at dksX0_hoursOf_0 21 rfl rfl)
theorem dX0_hoursOf_24 : decode cX0_hoursOf 24 = .ok (.iconst 1, 1) := dk_4 (dk_at dksX0_hoursOf_1 0 rfl rfl)
theorem dX0_hoursOf_25 : decode cX0_hoursOf 25 = .ok (.iload_n 3, 1) := dk_29 (dk_at dksX0_hoursOf_1 1 rfl rfl)
theorem dX0_hoursOf_26 : decode cX0_hoursOf 26 = .ok (.ishl, 1) := dk_120 (dk_at dksX0_hoursOf_1 2 rfl rfl)
theorem dX0_hoursOf_27 : decode cX0_hoursOf 27 = .ok (.goto 4, 3) := dk_167 0 4 (dk_at dksX0_hoursOf_1 3 rfl rfl)
theorem dX0_hoursOf_30 : decode cX0_hoursOf 30 = .ok (.iconst 0, 1) := dk_3 (dk_at dksX0_hoursOf_1 6 rfl rfl)
theorem dX0_hoursOf_31 : decode cX0_hoursOf 31 = .ok (.ior, 1) := dk_128 (dk_at dksX0_hoursOf_1 7 rfl rfl)
theorem dX0_hoursOf_32 : decode cX0_hoursOf 32 = .ok (.istore_n 2, 1) := dk_61 (dk_at dksX0_hoursOf_1 8 rfl rfl)
theorem dX0_hoursOf_33 : decode cX0_hoursOf 33 = .ok (.iinc 3 1, 3) := dk_132 3 1 (dk_at dksX0_hoursOf_1 9 rfl rfl)
theorem dX0_hoursOf_36 : decode cX0_hoursOf 36 = .ok (.goto (-32), 3) := dk_167 255 224 (dk_at dksX0_hoursOf_1 12 rfl rfl)
theorem dX0_hoursOf_39 : decode cX0_hoursOf 39 = .ok (.iload_n 2, 1) := dk_28 (dk_at dksX0_hoursOf_1 15 rfl rfl)
theorem dX0_hoursOf_40 : decode cX0_hoursOf 40 = .ok (.ireturn, 1) := dk_172 (dk_at dksX0_hoursOf_1 16 rfl rfl)
abbrev cX0_comes : ByteArray := prog_1_method_35_code
def yX0_comes : MethodName := ⟨RX0, "comes", "(II)I"⟩
def dkwX0_comes_1 : List UInt8 := [28, 182, 0, 238, 153, 0, 16, 42, 42, 27, 182, 0, 168, 28, 182, 0, 230, 167, 0, 5, 16, 253, 172]
abbrev dktX0_comes_1 : List UInt8 := dkwX0_comes_1 ++ []
def dkwX0_comes_0 : List UInt8 := [42, 27, 182, 0, 186, 153, 0, 10, 28, 184, 0, 107, 154, 0, 6, 16, 254, 172, 42, 42, 27, 182, 0, 168]
abbrev dktX0_comes_0 : List UInt8 := dkwX0_comes_0 ++ dktX0_comes_1
theorem dksX0_comes_0 : cX0_comes.data.toList.drop 0 = dktX0_comes_0 := by decide +kernel
theorem dksX0_comes_1 : cX0_comes.data.toList.drop 24 = dktX0_comes_1 := dk_seg dksX0_comes_0 24 rfl rfl
theorem dX0_comes_0 : decode cX0_comes 0 = .ok (.aload_n 0, 1) := dk_42 (dk_at dksX0_comes_0 0 rfl rfl)
theorem dX0_comes_1 : decode cX0_comes 1 = .ok (.iload_n 1, 1) := dk_27 (dk_at dksX0_comes_0 1 rfl rfl)
theorem dX0_comes_2 : decode cX0_comes 2 = .ok (.invokevirtual 186, 3) := dk_182 0 186 (dk_at dksX0_comes_0 2 rfl rfl)
theorem dX0_comes_5 : decode cX0_comes 5 = .ok (.ifCond .eq 10, 3) := dk_153 0 10 (dk_at dksX0_comes_0 5 rfl rfl)
theorem dX0_comes_8 : decode cX0_comes 8 = .ok (.iload_n 2, 1) := dk_28 (dk_at dksX0_comes_0 8 rfl rfl)
theorem dX0_comes_9 : decode cX0_comes 9 = .ok (.invokestatic 107, 3) := dk_184 0 107 (dk_at dksX0_comes_0 9 rfl rfl)
theorem dX0_comes_12 : decode cX0_comes 12 = .ok (.ifCond .ne 6, 3) := dk_154 0 6 (dk_at dksX0_comes_0 12 rfl rfl)
theorem dX0_comes_15 : decode cX0_comes 15 = .ok (.bipush (-2), 2) := dk_16 254 (dk_at dksX0_comes_0 15 rfl rfl)
theorem dX0_comes_17 : decode cX0_comes 17 = .ok (.ireturn, 1) := dk_172 (dk_at dksX0_comes_0 17 rfl rfl)
theorem dX0_comes_18 : decode cX0_comes 18 = .ok (.aload_n 0, 1) := dk_42 (dk_at dksX0_comes_0 18 rfl rfl)
theorem dX0_comes_19 : decode cX0_comes 19 = .ok (.aload_n 0, 1) := dk_42 (dk_at dksX0_comes_0 19 rfl rfl)
theorem dX0_comes_20 : decode cX0_comes 20 = .ok (.iload_n 1, 1) := dk_27 (dk_at dksX0_comes_0 20 rfl rfl)
theorem dX0_comes_21 : decode cX0_comes 21 = .ok (.invokevirtual 168, 3) := dk_182 0 168 (dk_at dksX0_comes_0 21 rfl rfl)
theorem dX0_comes_24 : decode cX0_comes 24 = .ok (.iload_n 2, 1) := dk_28 (dk_at dksX0_comes_1 0 rfl rfl)
theorem dX0_comes_25 : decode cX0_comes 25 = .ok (.invokevirtual 238, 3) := dk_182 0 238 (dk_at dksX0_comes_1 1 rfl rfl)
theorem dX0_comes_28 : decode cX0_comes 28 = .ok (.ifCond .eq 16, 3) := dk_153 0 16 (dk_at dksX0_comes_1 4 rfl rfl)
theorem dX0_comes_31 : decode cX0_comes 31 = .ok (.aload_n 0, 1) := dk_42 (dk_at dksX0_comes_1 7 rfl rfl)
theorem dX0_comes_32 : decode cX0_comes 32 = .ok (.aload_n 0, 1) := dk_42 (dk_at dksX0_comes_1 8 rfl rfl)
theorem dX0_comes_33 : decode cX0_comes 33 = .ok (.iload_n 1, 1) := dk_27 (dk_at dksX0_comes_1 9 rfl rfl)
theorem dX0_comes_34 : decode cX0_comes 34 = .ok (.invokevirtual 168, 3) := dk_182 0 168 (dk_at dksX0_comes_1 10 rfl rfl)
theorem dX0_comes_37 : decode cX0_comes 37 = .ok (.iload_n 2, 1) := dk_28 (dk_at dksX0_comes_1 13 rfl rfl)
theorem dX0_comes_38 : decode cX0_comes 38 = .ok (.invokevirtual 230, 3) := dk_182 0 230 (dk_at dksX0_comes_1 14 rfl rfl)
theorem dX0_comes_41 : decode cX0_comes 41 = .ok (.goto 5, 3) := dk_167 0 5 (dk_at dksX0_comes_1 17 rfl rfl)
theorem dX0_comes_44 : decode cX0_comes 44 = .ok (.bipush (-3), 2) := dk_16 253 (dk_at dksX0_comes_1 20 rfl rfl)
theorem dX0_comes_46 : decode cX0_comes 46 = .ok (.ireturn, 1) := dk_172 (dk_at dksX0_comes_1 22 rfl rfl)
abbrev cX0_costs : ByteArray := prog_1_method_37_code
def yX0_costs : MethodName := ⟨RX0, "costs", "(II)I"⟩
def dkwX0_costs_1 : List UInt8 := [16, 254, 172]
abbrev dktX0_costs_1 : List UInt8 := dkwX0_costs_1 ++ []
def dkwX0_costs_0 : List UInt8 := [42, 27, 182, 0, 186, 153, 0, 19, 28, 184, 0, 107, 153, 0, 12, 42, 27, 28, 182, 0, 247, 167, 0, 5]
abbrev dktX0_costs_0 : List UInt8 := dkwX0_costs_0 ++ dktX0_costs_1
theorem dksX0_costs_0 : cX0_costs.data.toList.drop 0 = dktX0_costs_0 := by decide +kernel
theorem dksX0_costs_1 : cX0_costs.data.toList.drop 24 = dktX0_costs_1 := dk_seg dksX0_costs_0 24 rfl rfl
theorem dX0_costs_0 : decode cX0_costs 0 = .ok (.aload_n 0, 1) := dk_42 (dk_at dksX0_costs_0 0 rfl rfl)
theorem dX0_costs_1 : decode cX0_costs 1 = .ok (.iload_n 1, 1) := dk_27 (dk_at dksX0_costs_0 1 rfl rfl)
theorem dX0_costs_2 : decode cX0_costs 2 = .ok (.invokevirtual 186, 3) := dk_182 0 186 (dk_at dksX0_costs_0 2 rfl rfl)
theorem dX0_costs_5 : decode cX0_costs 5 = .ok (.ifCond .eq 19, 3) := dk_153 0 19 (dk_at dksX0_costs_0 5 rfl rfl)
theorem dX0_costs_8 : decode cX0_costs 8 = .ok (.iload_n 2, 1) := dk_28 (dk_at dksX0_costs_0 8 rfl rfl)
theorem dX0_costs_9 : decode cX0_costs 9 = .ok (.invokestatic 107, 3) := dk_184 0 107 (dk_at dksX0_costs_0 9 rfl rfl)
theorem dX0_costs_12 : decode cX0_costs 12 = .ok (.ifCond .eq 12, 3) := dk_153 0 12 (dk_at dksX0_costs_0 12 rfl rfl)
theorem dX0_costs_15 : decode cX0_costs 15 = .ok (.aload_n 0, 1) := dk_42 (dk_at dksX0_costs_0 15 rfl rfl)
theorem dX0_costs_16 : decode cX0_costs 16 = .ok (.iload_n 1, 1) := dk_27 (dk_at dksX0_costs_0 16 rfl rfl)
theorem dX0_costs_17 : decode cX0_costs 17 = .ok (.iload_n 2, 1) := dk_28 (dk_at dksX0_costs_0 17 rfl rfl)
theorem dX0_costs_18 : decode cX0_costs 18 = .ok (.invokevirtual 247, 3) := dk_182 0 247 (dk_at dksX0_costs_0 18 rfl rfl)
theorem dX0_costs_21 : decode cX0_costs 21 = .ok (.goto 5, 3) := dk_167 0 5 (dk_at dksX0_costs_0 21 rfl rfl)
theorem dX0_costs_24 : decode cX0_costs 24 = .ok (.bipush (-2), 2) := dk_16 254 (dk_at dksX0_costs_1 0 rfl rfl)
theorem dX0_costs_26 : decode cX0_costs 26 = .ok (.ireturn, 1) := dk_172 (dk_at dksX0_costs_1 2 rfl rfl)
abbrev cX0_costsOf : ByteArray := prog_1_method_36_code
def yX0_costsOf : MethodName := ⟨RX0, "costsOf", "(II)I"⟩
def dkwX0_costsOf_2 : List UInt8 := [167, 0, 5, 16, 253, 172]
abbrev dktX0_costsOf_2 : List UInt8 := dkwX0_costsOf_2 ++ []
def dkwX0_costsOf_1 : List UInt8 := [182, 0, 244, 42, 45, 28, 182, 0, 234, 153, 0, 12, 42, 180, 0, 24, 3, 46, 167, 0, 4, 3, 96]
abbrev dktX0_costsOf_1 : List UInt8 := dkwX0_costsOf_1 ++ dktX0_costsOf_2
def dkwX0_costsOf_0 : List UInt8 := [42, 27, 182, 0, 168, 78, 42, 45, 28, 182, 0, 238, 153, 0, 36, 42, 42, 45, 28, 182, 0, 230]
abbrev dktX0_costsOf_0 : List UInt8 := dkwX0_costsOf_0 ++ dktX0_costsOf_1
theorem dksX0_costsOf_0 : cX0_costsOf.data.toList.drop 0 = dktX0_costsOf_0 := by decide +kernel
theorem dksX0_costsOf_1 : cX0_costsOf.data.toList.drop 22 = dktX0_costsOf_1 := dk_seg dksX0_costsOf_0 22 rfl rfl
theorem dksX0_costsOf_2 : cX0_costsOf.data.toList.drop 45 = dktX0_costsOf_2 := dk_seg dksX0_costsOf_1 23 rfl rfl
theorem dX0_costsOf_0 : decode cX0_costsOf 0 = .ok (.aload_n 0, 1) := dk_42 (dk_at dksX0_costsOf_0 0 rfl rfl)
theorem dX0_costsOf_1 : decode cX0_costsOf 1 = .ok (.iload_n 1, 1) := dk_27 (dk_at dksX0_costsOf_0 1 rfl rfl)
theorem dX0_costsOf_2 : decode cX0_costsOf 2 = .ok (.invokevirtual 168, 3) := dk_182 0 168 (dk_at dksX0_costsOf_0 2 rfl rfl)
theorem dX0_costsOf_5 : decode cX0_costsOf 5 = .ok (.astore_n 3, 1) := dk_78 (dk_at dksX0_costsOf_0 5 rfl rfl)
theorem dX0_costsOf_6 : decode cX0_costsOf 6 = .ok (.aload_n 0, 1) := dk_42 (dk_at dksX0_costsOf_0 6 rfl rfl)
theorem dX0_costsOf_7 : decode cX0_costsOf 7 = .ok (.aload_n 3, 1) := dk_45 (dk_at dksX0_costsOf_0 7 rfl rfl)
theorem dX0_costsOf_8 : decode cX0_costsOf 8 = .ok (.iload_n 2, 1) := dk_28 (dk_at dksX0_costsOf_0 8 rfl rfl)
theorem dX0_costsOf_9 : decode cX0_costsOf 9 = .ok (.invokevirtual 238, 3) := dk_182 0 238 (dk_at dksX0_costsOf_0 9 rfl rfl)
theorem dX0_costsOf_12 : decode cX0_costsOf 12 = .ok (.ifCond .eq 36, 3) := dk_153 0 36 (dk_at dksX0_costsOf_0 12 rfl rfl)
theorem dX0_costsOf_15 : decode cX0_costsOf 15 = .ok (.aload_n 0, 1) := dk_42 (dk_at dksX0_costsOf_0 15 rfl rfl)
theorem dX0_costsOf_16 : decode cX0_costsOf 16 = .ok (.aload_n 0, 1) := dk_42 (dk_at dksX0_costsOf_0 16 rfl rfl)
theorem dX0_costsOf_17 : decode cX0_costsOf 17 = .ok (.aload_n 3, 1) := dk_45 (dk_at dksX0_costsOf_0 17 rfl rfl)
theorem dX0_costsOf_18 : decode cX0_costsOf 18 = .ok (.iload_n 2, 1) := dk_28 (dk_at dksX0_costsOf_0 18 rfl rfl)
theorem dX0_costsOf_19 : decode cX0_costsOf 19 = .ok (.invokevirtual 230, 3) := dk_182 0 230 (dk_at dksX0_costsOf_0 19 rfl rfl)
theorem dX0_costsOf_22 : decode cX0_costsOf 22 = .ok (.invokevirtual 244, 3) := dk_182 0 244 (dk_at dksX0_costsOf_1 0 rfl rfl)
theorem dX0_costsOf_25 : decode cX0_costsOf 25 = .ok (.aload_n 0, 1) := dk_42 (dk_at dksX0_costsOf_1 3 rfl rfl)
theorem dX0_costsOf_26 : decode cX0_costsOf 26 = .ok (.aload_n 3, 1) := dk_45 (dk_at dksX0_costsOf_1 4 rfl rfl)
theorem dX0_costsOf_27 : decode cX0_costsOf 27 = .ok (.iload_n 2, 1) := dk_28 (dk_at dksX0_costsOf_1 5 rfl rfl)
theorem dX0_costsOf_28 : decode cX0_costsOf 28 = .ok (.invokevirtual 234, 3) := dk_182 0 234 (dk_at dksX0_costsOf_1 6 rfl rfl)
theorem dX0_costsOf_31 : decode cX0_costsOf 31 = .ok (.ifCond .eq 12, 3) := dk_153 0 12 (dk_at dksX0_costsOf_1 9 rfl rfl)
theorem dX0_costsOf_34 : decode cX0_costsOf 34 = .ok (.aload_n 0, 1) := dk_42 (dk_at dksX0_costsOf_1 12 rfl rfl)
theorem dX0_costsOf_35 : decode cX0_costsOf 35 = .ok (.getfield 24, 3) := dk_180 0 24 (dk_at dksX0_costsOf_1 13 rfl rfl)
theorem dX0_costsOf_38 : decode cX0_costsOf 38 = .ok (.iconst 0, 1) := dk_3 (dk_at dksX0_costsOf_1 16 rfl rfl)
theorem dX0_costsOf_39 : decode cX0_costsOf 39 = .ok (.iaload, 1) := dk_46 (dk_at dksX0_costsOf_1 17 rfl rfl)
theorem dX0_costsOf_40 : decode cX0_costsOf 40 = .ok (.goto 4, 3) := dk_167 0 4 (dk_at dksX0_costsOf_1 18 rfl rfl)
theorem dX0_costsOf_43 : decode cX0_costsOf 43 = .ok (.iconst 0, 1) := dk_3 (dk_at dksX0_costsOf_1 21 rfl rfl)
theorem dX0_costsOf_44 : decode cX0_costsOf 44 = .ok (.iadd, 1) := dk_96 (dk_at dksX0_costsOf_1 22 rfl rfl)
theorem dX0_costsOf_45 : decode cX0_costsOf 45 = .ok (.goto 5, 3) := dk_167 0 5 (dk_at dksX0_costsOf_2 0 rfl rfl)
theorem dX0_costsOf_48 : decode cX0_costsOf 48 = .ok (.bipush (-3), 2) := dk_16 253 (dk_at dksX0_costsOf_2 3 rfl rfl)
theorem dX0_costsOf_50 : decode cX0_costsOf 50 = .ok (.ireturn, 1) := dk_172 (dk_at dksX0_costsOf_2 5 rfl rfl)
abbrev cX0_prices : ByteArray := prog_1_method_31_code
def yX0_prices : MethodName := ⟨RX0, "prices", "(I)I"⟩
def dkwX0_prices_1 : List UInt8 := [50, 180, 0, 104, 5, 46, 167, 0, 4, 3, 96, 61, 132, 3, 1, 167, 255, 221, 28, 172]
abbrev dktX0_prices_1 : List UInt8 := dkwX0_prices_1 ++ []
def dkwX0_prices_0 : List UInt8 := [3, 61, 3, 62, 29, 16, 8, 162, 0, 35, 28, 27, 29, 184, 0, 223, 153, 0, 17, 42, 180, 0, 14, 29]
abbrev dktX0_prices_0 : List UInt8 := dkwX0_prices_0 ++ dktX0_prices_1
theorem dksX0_prices_0 : cX0_prices.data.toList.drop 0 = dktX0_prices_0 := by decide +kernel
theorem dksX0_prices_1 : cX0_prices.data.toList.drop 24 = dktX0_prices_1 := dk_seg dksX0_prices_0 24 rfl rfl
theorem dX0_prices_0 : decode cX0_prices 0 = .ok (.iconst 0, 1) := dk_3 (dk_at dksX0_prices_0 0 rfl rfl)
theorem dX0_prices_1 : decode cX0_prices 1 = .ok (.istore_n 2, 1) := dk_61 (dk_at dksX0_prices_0 1 rfl rfl)
theorem dX0_prices_2 : decode cX0_prices 2 = .ok (.iconst 0, 1) := dk_3 (dk_at dksX0_prices_0 2 rfl rfl)
theorem dX0_prices_3 : decode cX0_prices 3 = .ok (.istore_n 3, 1) := dk_62 (dk_at dksX0_prices_0 3 rfl rfl)
theorem dX0_prices_4 : decode cX0_prices 4 = .ok (.iload_n 3, 1) := dk_29 (dk_at dksX0_prices_0 4 rfl rfl)
theorem dX0_prices_5 : decode cX0_prices 5 = .ok (.bipush 8, 2) := dk_16 8 (dk_at dksX0_prices_0 5 rfl rfl)
theorem dX0_prices_7 : decode cX0_prices 7 = .ok (.if_icmp .ge 35, 3) := dk_162 0 35 (dk_at dksX0_prices_0 7 rfl rfl)
theorem dX0_prices_10 : decode cX0_prices 10 = .ok (.iload_n 2, 1) := dk_28 (dk_at dksX0_prices_0 10 rfl rfl)
theorem dX0_prices_11 : decode cX0_prices 11 = .ok (.iload_n 1, 1) := dk_27 (dk_at dksX0_prices_0 11 rfl rfl)
theorem dX0_prices_12 : decode cX0_prices 12 = .ok (.iload_n 3, 1) := dk_29 (dk_at dksX0_prices_0 12 rfl rfl)
theorem dX0_prices_13 : decode cX0_prices 13 = .ok (.invokestatic 223, 3) := dk_184 0 223 (dk_at dksX0_prices_0 13 rfl rfl)
theorem dX0_prices_16 : decode cX0_prices 16 = .ok (.ifCond .eq 17, 3) := dk_153 0 17 (dk_at dksX0_prices_0 16 rfl rfl)
theorem dX0_prices_19 : decode cX0_prices 19 = .ok (.aload_n 0, 1) := dk_42 (dk_at dksX0_prices_0 19 rfl rfl)
theorem dX0_prices_20 : decode cX0_prices 20 = .ok (.getfield 14, 3) := dk_180 0 14 (dk_at dksX0_prices_0 20 rfl rfl)
theorem dX0_prices_23 : decode cX0_prices 23 = .ok (.iload_n 3, 1) := dk_29 (dk_at dksX0_prices_0 23 rfl rfl)
theorem dX0_prices_24 : decode cX0_prices 24 = .ok (.aaload, 1) := dk_50 (dk_at dksX0_prices_1 0 rfl rfl)
theorem dX0_prices_25 : decode cX0_prices 25 = .ok (.getfield 104, 3) := dk_180 0 104 (dk_at dksX0_prices_1 1 rfl rfl)
theorem dX0_prices_28 : decode cX0_prices 28 = .ok (.iconst 2, 1) := dk_5 (dk_at dksX0_prices_1 4 rfl rfl)
theorem dX0_prices_29 : decode cX0_prices 29 = .ok (.iaload, 1) := dk_46 (dk_at dksX0_prices_1 5 rfl rfl)
theorem dX0_prices_30 : decode cX0_prices 30 = .ok (.goto 4, 3) := dk_167 0 4 (dk_at dksX0_prices_1 6 rfl rfl)
theorem dX0_prices_33 : decode cX0_prices 33 = .ok (.iconst 0, 1) := dk_3 (dk_at dksX0_prices_1 9 rfl rfl)
theorem dX0_prices_34 : decode cX0_prices 34 = .ok (.iadd, 1) := dk_96 (dk_at dksX0_prices_1 10 rfl rfl)
theorem dX0_prices_35 : decode cX0_prices 35 = .ok (.istore_n 2, 1) := dk_61 (dk_at dksX0_prices_1 11 rfl rfl)
theorem dX0_prices_36 : decode cX0_prices 36 = .ok (.iinc 3 1, 3) := dk_132 3 1 (dk_at dksX0_prices_1 12 rfl rfl)
theorem dX0_prices_39 : decode cX0_prices 39 = .ok (.goto (-35), 3) := dk_167 255 221 (dk_at dksX0_prices_1 15 rfl rfl)
theorem dX0_prices_42 : decode cX0_prices 42 = .ok (.iload_n 2, 1) := dk_28 (dk_at dksX0_prices_1 18 rfl rfl)
theorem dX0_prices_43 : decode cX0_prices 43 = .ok (.ireturn, 1) := dk_172 (dk_at dksX0_prices_1 19 rfl rfl)
abbrev cX0_most : ByteArray := prog_1_method_45_code
def yX0_most : MethodName := ⟨RX0, "most", "(I)I"⟩
def dkwX0_most_1 : List UInt8 := [182, 1, 33, 180, 1, 27, 167, 0, 5, 16, 254, 172]
abbrev dktX0_most_1 : List UInt8 := dkwX0_most_1 ++ []
def dkwX0_most_0 : List UInt8 := [27, 184, 0, 110, 153, 0, 27, 27, 154, 0, 13, 42, 182, 1, 33, 180, 1, 26, 167, 0, 15, 42]
abbrev dktX0_most_0 : List UInt8 := dkwX0_most_0 ++ dktX0_most_1
theorem dksX0_most_0 : cX0_most.data.toList.drop 0 = dktX0_most_0 := by decide +kernel
theorem dksX0_most_1 : cX0_most.data.toList.drop 22 = dktX0_most_1 := dk_seg dksX0_most_0 22 rfl rfl
theorem dX0_most_0 : decode cX0_most 0 = .ok (.iload_n 1, 1) := dk_27 (dk_at dksX0_most_0 0 rfl rfl)
theorem dX0_most_1 : decode cX0_most 1 = .ok (.invokestatic 110, 3) := dk_184 0 110 (dk_at dksX0_most_0 1 rfl rfl)
theorem dX0_most_4 : decode cX0_most 4 = .ok (.ifCond .eq 27, 3) := dk_153 0 27 (dk_at dksX0_most_0 4 rfl rfl)
theorem dX0_most_7 : decode cX0_most 7 = .ok (.iload_n 1, 1) := dk_27 (dk_at dksX0_most_0 7 rfl rfl)
theorem dX0_most_8 : decode cX0_most 8 = .ok (.ifCond .ne 13, 3) := dk_154 0 13 (dk_at dksX0_most_0 8 rfl rfl)
theorem dX0_most_11 : decode cX0_most 11 = .ok (.aload_n 0, 1) := dk_42 (dk_at dksX0_most_0 11 rfl rfl)
theorem dX0_most_12 : decode cX0_most 12 = .ok (.invokevirtual 289, 3) := dk_182 1 33 (dk_at dksX0_most_0 12 rfl rfl)
theorem dX0_most_15 : decode cX0_most 15 = .ok (.getfield 282, 3) := dk_180 1 26 (dk_at dksX0_most_0 15 rfl rfl)
theorem dX0_most_18 : decode cX0_most 18 = .ok (.goto 15, 3) := dk_167 0 15 (dk_at dksX0_most_0 18 rfl rfl)
theorem dX0_most_21 : decode cX0_most 21 = .ok (.aload_n 0, 1) := dk_42 (dk_at dksX0_most_0 21 rfl rfl)
theorem dX0_most_22 : decode cX0_most 22 = .ok (.invokevirtual 289, 3) := dk_182 1 33 (dk_at dksX0_most_1 0 rfl rfl)
theorem dX0_most_25 : decode cX0_most 25 = .ok (.getfield 283, 3) := dk_180 1 27 (dk_at dksX0_most_1 3 rfl rfl)
theorem dX0_most_28 : decode cX0_most 28 = .ok (.goto 5, 3) := dk_167 0 5 (dk_at dksX0_most_1 6 rfl rfl)
theorem dX0_most_31 : decode cX0_most 31 = .ok (.bipush (-2), 2) := dk_16 254 (dk_at dksX0_most_1 9 rfl rfl)
theorem dX0_most_33 : decode cX0_most 33 = .ok (.ireturn, 1) := dk_172 (dk_at dksX0_most_1 11 rfl rfl)
abbrev cX0_planned : ByteArray := prog_1_method_44_code
def yX0_planned : MethodName := ⟨RX0, "planned", "()LSecondChances;"⟩
def dkwX0_planned_0 : List UInt8 := [42, 180, 0, 27, 153, 0, 7, 42, 182, 1, 30, 42, 3, 181, 0, 27, 42, 176]
abbrev dktX0_planned_0 : List UInt8 := dkwX0_planned_0 ++ []
theorem dksX0_planned_0 : cX0_planned.data.toList.drop 0 = dktX0_planned_0 := by decide +kernel
theorem dX0_planned_0 : decode cX0_planned 0 = .ok (.aload_n 0, 1) := dk_42 (dk_at dksX0_planned_0 0 rfl rfl)
theorem dX0_planned_1 : decode cX0_planned 1 = .ok (.getfield 27, 3) := dk_180 0 27 (dk_at dksX0_planned_0 1 rfl rfl)
theorem dX0_planned_4 : decode cX0_planned 4 = .ok (.ifCond .eq 7, 3) := dk_153 0 7 (dk_at dksX0_planned_0 4 rfl rfl)
theorem dX0_planned_7 : decode cX0_planned 7 = .ok (.aload_n 0, 1) := dk_42 (dk_at dksX0_planned_0 7 rfl rfl)
theorem dX0_planned_8 : decode cX0_planned 8 = .ok (.invokevirtual 286, 3) := dk_182 1 30 (dk_at dksX0_planned_0 8 rfl rfl)
theorem dX0_planned_11 : decode cX0_planned 11 = .ok (.aload_n 0, 1) := dk_42 (dk_at dksX0_planned_0 11 rfl rfl)
theorem dX0_planned_12 : decode cX0_planned 12 = .ok (.iconst 0, 1) := dk_3 (dk_at dksX0_planned_0 12 rfl rfl)
theorem dX0_planned_13 : decode cX0_planned 13 = .ok (.putfield 27, 3) := dk_181 0 27 (dk_at dksX0_planned_0 13 rfl rfl)
theorem dX0_planned_16 : decode cX0_planned 16 = .ok (.aload_n 0, 1) := dk_42 (dk_at dksX0_planned_0 16 rfl rfl)
theorem dX0_planned_17 : decode cX0_planned 17 = .ok (.areturn, 1) := dk_176 (dk_at dksX0_planned_0 17 rfl rfl)
abbrev cX0_findPlan : ByteArray := prog_1_method_43_code
def yX0_findPlan : MethodName := ⟨RX0, "findPlan", "()V"⟩
def dkwX0_findPlan_7 : List UInt8 := [180, 0, 59, 28, 46, 79, 132, 2, 1, 167, 255, 186, 177]
abbrev dktX0_findPlan_7 : List UInt8 := dkwX0_findPlan_7 ++ []
def dkwX0_findPlan_6 : List UInt8 := [180, 0, 59, 28, 92, 46, 4, 96, 79, 42, 182, 1, 23, 167, 255, 220, 42, 180, 0, 62, 28, 42]
abbrev dktX0_findPlan_6 : List UInt8 := dkwX0_findPlan_6 ++ dktX0_findPlan_7
def dkwX0_findPlan_5 : List UInt8 := [42, 180, 1, 11, 42, 180, 1, 26, 160, 0, 14, 42, 180, 1, 14, 42, 180, 1, 27, 159, 0, 20, 42]
abbrev dktX0_findPlan_5 : List UInt8 := dkwX0_findPlan_5 ++ dktX0_findPlan_6
def dkwX0_findPlan_4 : List UInt8 := [180, 1, 14, 181, 1, 27, 3, 61, 28, 27, 162, 0, 71, 42, 180, 0, 59, 28, 2, 79, 42, 182, 1, 23]
abbrev dktX0_findPlan_4 : List UInt8 := dkwX0_findPlan_4 ++ dktX0_findPlan_5
def dkwX0_findPlan_3 : List UInt8 := [16, 254, 79, 132, 2, 1, 167, 255, 240, 42, 182, 1, 23, 42, 42, 180, 1, 11, 181, 1, 26, 42, 42]
abbrev dktX0_findPlan_3 : List UInt8 := dkwX0_findPlan_3 ++ dktX0_findPlan_4
def dkwX0_findPlan_2 : List UInt8 := [132, 3, 1, 167, 255, 233, 132, 2, 1, 167, 255, 207, 3, 61, 28, 27, 162, 0, 17, 42, 180, 0, 59, 28]
abbrev dktX0_findPlan_2 : List UInt8 := dkwX0_findPlan_2 ++ dktX0_findPlan_3
def dkwX0_findPlan_1 : List UInt8 := [79, 3, 62, 29, 16, 8, 162, 0, 23, 42, 180, 0, 47, 29, 50, 28, 42, 28, 29, 182, 1, 20, 79]
abbrev dktX0_findPlan_1 : List UInt8 := dkwX0_findPlan_1 ++ dktX0_findPlan_2
def dkwX0_findPlan_0 : List UInt8 := [42, 182, 0, 166, 60, 3, 61, 28, 4, 27, 120, 162, 0, 48, 42, 180, 0, 50, 28, 42, 28, 182, 1, 17]
abbrev dktX0_findPlan_0 : List UInt8 := dkwX0_findPlan_0 ++ dktX0_findPlan_1
theorem dksX0_findPlan_0 : cX0_findPlan.data.toList.drop 0 = dktX0_findPlan_0 := by decide +kernel
theorem dksX0_findPlan_1 : cX0_findPlan.data.toList.drop 24 = dktX0_findPlan_1 := dk_seg dksX0_findPlan_0 24 rfl rfl
theorem dksX0_findPlan_2 : cX0_findPlan.data.toList.drop 47 = dktX0_findPlan_2 := dk_seg dksX0_findPlan_1 23 rfl rfl
theorem dksX0_findPlan_3 : cX0_findPlan.data.toList.drop 71 = dktX0_findPlan_3 := dk_seg dksX0_findPlan_2 24 rfl rfl
theorem dksX0_findPlan_4 : cX0_findPlan.data.toList.drop 94 = dktX0_findPlan_4 := dk_seg dksX0_findPlan_3 23 rfl rfl
theorem dksX0_findPlan_5 : cX0_findPlan.data.toList.drop 118 = dktX0_findPlan_5 := dk_seg dksX0_findPlan_4 24 rfl rfl
theorem dksX0_findPlan_6 : cX0_findPlan.data.toList.drop 141 = dktX0_findPlan_6 := dk_seg dksX0_findPlan_5 23 rfl rfl
theorem dksX0_findPlan_7 : cX0_findPlan.data.toList.drop 163 = dktX0_findPlan_7 := dk_seg dksX0_findPlan_6 22 rfl rfl
theorem dX0_findPlan_0 : decode cX0_findPlan 0 = .ok (.aload_n 0, 1) := dk_42 (dk_at dksX0_findPlan_0 0 rfl rfl)
theorem dX0_findPlan_1 : decode cX0_findPlan 1 = .ok (.invokevirtual 166, 3) := dk_182 0 166 (dk_at dksX0_findPlan_0 1 rfl rfl)
theorem dX0_findPlan_4 : decode cX0_findPlan 4 = .ok (.istore_n 1, 1) := dk_60 (dk_at dksX0_findPlan_0 4 rfl rfl)
theorem dX0_findPlan_5 : decode cX0_findPlan 5 = .ok (.iconst 0, 1) := dk_3 (dk_at dksX0_findPlan_0 5 rfl rfl)
theorem dX0_findPlan_6 : decode cX0_findPlan 6 = .ok (.istore_n 2, 1) := dk_61 (dk_at dksX0_findPlan_0 6 rfl rfl)
theorem dX0_findPlan_7 : decode cX0_findPlan 7 = .ok (.iload_n 2, 1) := dk_28 (dk_at dksX0_findPlan_0 7 rfl rfl)
theorem dX0_findPlan_8 : decode cX0_findPlan 8 = .ok (.iconst 1, 1) := dk_4 (dk_at dksX0_findPlan_0 8 rfl rfl)
theorem dX0_findPlan_9 : decode cX0_findPlan 9 = .ok (.iload_n 1, 1) := dk_27 (dk_at dksX0_findPlan_0 9 rfl rfl)
theorem dX0_findPlan_10 : decode cX0_findPlan 10 = .ok (.ishl, 1) := dk_120 (dk_at dksX0_findPlan_0 10 rfl rfl)
theorem dX0_findPlan_11 : decode cX0_findPlan 11 = .ok (.if_icmp .ge 48, 3) := dk_162 0 48 (dk_at dksX0_findPlan_0 11 rfl rfl)
theorem dX0_findPlan_14 : decode cX0_findPlan 14 = .ok (.aload_n 0, 1) := dk_42 (dk_at dksX0_findPlan_0 14 rfl rfl)
theorem dX0_findPlan_15 : decode cX0_findPlan 15 = .ok (.getfield 50, 3) := dk_180 0 50 (dk_at dksX0_findPlan_0 15 rfl rfl)
theorem dX0_findPlan_18 : decode cX0_findPlan 18 = .ok (.iload_n 2, 1) := dk_28 (dk_at dksX0_findPlan_0 18 rfl rfl)
theorem dX0_findPlan_19 : decode cX0_findPlan 19 = .ok (.aload_n 0, 1) := dk_42 (dk_at dksX0_findPlan_0 19 rfl rfl)
theorem dX0_findPlan_20 : decode cX0_findPlan 20 = .ok (.iload_n 2, 1) := dk_28 (dk_at dksX0_findPlan_0 20 rfl rfl)
theorem dX0_findPlan_21 : decode cX0_findPlan 21 = .ok (.invokevirtual 273, 3) := dk_182 1 17 (dk_at dksX0_findPlan_0 21 rfl rfl)
theorem dX0_findPlan_24 : decode cX0_findPlan 24 = .ok (.iastore, 1) := dk_79 (dk_at dksX0_findPlan_1 0 rfl rfl)
theorem dX0_findPlan_25 : decode cX0_findPlan 25 = .ok (.iconst 0, 1) := dk_3 (dk_at dksX0_findPlan_1 1 rfl rfl)
theorem dX0_findPlan_26 : decode cX0_findPlan 26 = .ok (.istore_n 3, 1) := dk_62 (dk_at dksX0_findPlan_1 2 rfl rfl)
theorem dX0_findPlan_27 : decode cX0_findPlan 27 = .ok (.iload_n 3, 1) := dk_29 (dk_at dksX0_findPlan_1 3 rfl rfl)
theorem dX0_findPlan_28 : decode cX0_findPlan 28 = .ok (.bipush 8, 2) := dk_16 8 (dk_at dksX0_findPlan_1 4 rfl rfl)
theorem dX0_findPlan_30 : decode cX0_findPlan 30 = .ok (.if_icmp .ge 23, 3) := dk_162 0 23 (dk_at dksX0_findPlan_1 6 rfl rfl)
theorem dX0_findPlan_33 : decode cX0_findPlan 33 = .ok (.aload_n 0, 1) := dk_42 (dk_at dksX0_findPlan_1 9 rfl rfl)
theorem dX0_findPlan_34 : decode cX0_findPlan 34 = .ok (.getfield 47, 3) := dk_180 0 47 (dk_at dksX0_findPlan_1 10 rfl rfl)
theorem dX0_findPlan_37 : decode cX0_findPlan 37 = .ok (.iload_n 3, 1) := dk_29 (dk_at dksX0_findPlan_1 13 rfl rfl)
theorem dX0_findPlan_38 : decode cX0_findPlan 38 = .ok (.aaload, 1) := dk_50 (dk_at dksX0_findPlan_1 14 rfl rfl)
theorem dX0_findPlan_39 : decode cX0_findPlan 39 = .ok (.iload_n 2, 1) := dk_28 (dk_at dksX0_findPlan_1 15 rfl rfl)
theorem dX0_findPlan_40 : decode cX0_findPlan 40 = .ok (.aload_n 0, 1) := dk_42 (dk_at dksX0_findPlan_1 16 rfl rfl)
theorem dX0_findPlan_41 : decode cX0_findPlan 41 = .ok (.iload_n 2, 1) := dk_28 (dk_at dksX0_findPlan_1 17 rfl rfl)
theorem dX0_findPlan_42 : decode cX0_findPlan 42 = .ok (.iload_n 3, 1) := dk_29 (dk_at dksX0_findPlan_1 18 rfl rfl)
theorem dX0_findPlan_43 : decode cX0_findPlan 43 = .ok (.invokevirtual 276, 3) := dk_182 1 20 (dk_at dksX0_findPlan_1 19 rfl rfl)
theorem dX0_findPlan_46 : decode cX0_findPlan 46 = .ok (.iastore, 1) := dk_79 (dk_at dksX0_findPlan_1 22 rfl rfl)
theorem dX0_findPlan_47 : decode cX0_findPlan 47 = .ok (.iinc 3 1, 3) := dk_132 3 1 (dk_at dksX0_findPlan_2 0 rfl rfl)
theorem dX0_findPlan_50 : decode cX0_findPlan 50 = .ok (.goto (-23), 3) := dk_167 255 233 (dk_at dksX0_findPlan_2 3 rfl rfl)
theorem dX0_findPlan_53 : decode cX0_findPlan 53 = .ok (.iinc 2 1, 3) := dk_132 2 1 (dk_at dksX0_findPlan_2 6 rfl rfl)
theorem dX0_findPlan_56 : decode cX0_findPlan 56 = .ok (.goto (-49), 3) := dk_167 255 207 (dk_at dksX0_findPlan_2 9 rfl rfl)
theorem dX0_findPlan_59 : decode cX0_findPlan 59 = .ok (.iconst 0, 1) := dk_3 (dk_at dksX0_findPlan_2 12 rfl rfl)
theorem dX0_findPlan_60 : decode cX0_findPlan 60 = .ok (.istore_n 2, 1) := dk_61 (dk_at dksX0_findPlan_2 13 rfl rfl)
theorem dX0_findPlan_61 : decode cX0_findPlan 61 = .ok (.iload_n 2, 1) := dk_28 (dk_at dksX0_findPlan_2 14 rfl rfl)
theorem dX0_findPlan_62 : decode cX0_findPlan 62 = .ok (.iload_n 1, 1) := dk_27 (dk_at dksX0_findPlan_2 15 rfl rfl)
theorem dX0_findPlan_63 : decode cX0_findPlan 63 = .ok (.if_icmp .ge 17, 3) := dk_162 0 17 (dk_at dksX0_findPlan_2 16 rfl rfl)
theorem dX0_findPlan_66 : decode cX0_findPlan 66 = .ok (.aload_n 0, 1) := dk_42 (dk_at dksX0_findPlan_2 19 rfl rfl)
theorem dX0_findPlan_67 : decode cX0_findPlan 67 = .ok (.getfield 59, 3) := dk_180 0 59 (dk_at dksX0_findPlan_2 20 rfl rfl)
theorem dX0_findPlan_70 : decode cX0_findPlan 70 = .ok (.iload_n 2, 1) := dk_28 (dk_at dksX0_findPlan_2 23 rfl rfl)
theorem dX0_findPlan_71 : decode cX0_findPlan 71 = .ok (.bipush (-2), 2) := dk_16 254 (dk_at dksX0_findPlan_3 0 rfl rfl)
theorem dX0_findPlan_73 : decode cX0_findPlan 73 = .ok (.iastore, 1) := dk_79 (dk_at dksX0_findPlan_3 2 rfl rfl)
theorem dX0_findPlan_74 : decode cX0_findPlan 74 = .ok (.iinc 2 1, 3) := dk_132 2 1 (dk_at dksX0_findPlan_3 3 rfl rfl)
theorem dX0_findPlan_77 : decode cX0_findPlan 77 = .ok (.goto (-16), 3) := dk_167 255 240 (dk_at dksX0_findPlan_3 6 rfl rfl)
theorem dX0_findPlan_80 : decode cX0_findPlan 80 = .ok (.aload_n 0, 1) := dk_42 (dk_at dksX0_findPlan_3 9 rfl rfl)
theorem dX0_findPlan_81 : decode cX0_findPlan 81 = .ok (.invokevirtual 279, 3) := dk_182 1 23 (dk_at dksX0_findPlan_3 10 rfl rfl)
theorem dX0_findPlan_84 : decode cX0_findPlan 84 = .ok (.aload_n 0, 1) := dk_42 (dk_at dksX0_findPlan_3 13 rfl rfl)
theorem dX0_findPlan_85 : decode cX0_findPlan 85 = .ok (.aload_n 0, 1) := dk_42 (dk_at dksX0_findPlan_3 14 rfl rfl)
theorem dX0_findPlan_86 : decode cX0_findPlan 86 = .ok (.getfield 267, 3) := dk_180 1 11 (dk_at dksX0_findPlan_3 15 rfl rfl)
theorem dX0_findPlan_89 : decode cX0_findPlan 89 = .ok (.putfield 282, 3) := dk_181 1 26 (dk_at dksX0_findPlan_3 18 rfl rfl)
theorem dX0_findPlan_92 : decode cX0_findPlan 92 = .ok (.aload_n 0, 1) := dk_42 (dk_at dksX0_findPlan_3 21 rfl rfl)
theorem dX0_findPlan_93 : decode cX0_findPlan 93 = .ok (.aload_n 0, 1) := dk_42 (dk_at dksX0_findPlan_3 22 rfl rfl)
theorem dX0_findPlan_94 : decode cX0_findPlan 94 = .ok (.getfield 270, 3) := dk_180 1 14 (dk_at dksX0_findPlan_4 0 rfl rfl)
theorem dX0_findPlan_97 : decode cX0_findPlan 97 = .ok (.putfield 283, 3) := dk_181 1 27 (dk_at dksX0_findPlan_4 3 rfl rfl)
theorem dX0_findPlan_100 : decode cX0_findPlan 100 = .ok (.iconst 0, 1) := dk_3 (dk_at dksX0_findPlan_4 6 rfl rfl)
theorem dX0_findPlan_101 : decode cX0_findPlan 101 = .ok (.istore_n 2, 1) := dk_61 (dk_at dksX0_findPlan_4 7 rfl rfl)
theorem dX0_findPlan_102 : decode cX0_findPlan 102 = .ok (.iload_n 2, 1) := dk_28 (dk_at dksX0_findPlan_4 8 rfl rfl)
theorem dX0_findPlan_103 : decode cX0_findPlan 103 = .ok (.iload_n 1, 1) := dk_27 (dk_at dksX0_findPlan_4 9 rfl rfl)
theorem dX0_findPlan_104 : decode cX0_findPlan 104 = .ok (.if_icmp .ge 71, 3) := dk_162 0 71 (dk_at dksX0_findPlan_4 10 rfl rfl)
theorem dX0_findPlan_107 : decode cX0_findPlan 107 = .ok (.aload_n 0, 1) := dk_42 (dk_at dksX0_findPlan_4 13 rfl rfl)
theorem dX0_findPlan_108 : decode cX0_findPlan 108 = .ok (.getfield 59, 3) := dk_180 0 59 (dk_at dksX0_findPlan_4 14 rfl rfl)
theorem dX0_findPlan_111 : decode cX0_findPlan 111 = .ok (.iload_n 2, 1) := dk_28 (dk_at dksX0_findPlan_4 17 rfl rfl)
theorem dX0_findPlan_112 : decode cX0_findPlan 112 = .ok (.iconst (-1), 1) := dk_2 (dk_at dksX0_findPlan_4 18 rfl rfl)
theorem dX0_findPlan_113 : decode cX0_findPlan 113 = .ok (.iastore, 1) := dk_79 (dk_at dksX0_findPlan_4 19 rfl rfl)
theorem dX0_findPlan_114 : decode cX0_findPlan 114 = .ok (.aload_n 0, 1) := dk_42 (dk_at dksX0_findPlan_4 20 rfl rfl)
theorem dX0_findPlan_115 : decode cX0_findPlan 115 = .ok (.invokevirtual 279, 3) := dk_182 1 23 (dk_at dksX0_findPlan_4 21 rfl rfl)
theorem dX0_findPlan_118 : decode cX0_findPlan 118 = .ok (.aload_n 0, 1) := dk_42 (dk_at dksX0_findPlan_5 0 rfl rfl)
theorem dX0_findPlan_119 : decode cX0_findPlan 119 = .ok (.getfield 267, 3) := dk_180 1 11 (dk_at dksX0_findPlan_5 1 rfl rfl)
theorem dX0_findPlan_122 : decode cX0_findPlan 122 = .ok (.aload_n 0, 1) := dk_42 (dk_at dksX0_findPlan_5 4 rfl rfl)
theorem dX0_findPlan_123 : decode cX0_findPlan 123 = .ok (.getfield 282, 3) := dk_180 1 26 (dk_at dksX0_findPlan_5 5 rfl rfl)
theorem dX0_findPlan_126 : decode cX0_findPlan 126 = .ok (.if_icmp .ne 14, 3) := dk_160 0 14 (dk_at dksX0_findPlan_5 8 rfl rfl)
theorem dX0_findPlan_129 : decode cX0_findPlan 129 = .ok (.aload_n 0, 1) := dk_42 (dk_at dksX0_findPlan_5 11 rfl rfl)
theorem dX0_findPlan_130 : decode cX0_findPlan 130 = .ok (.getfield 270, 3) := dk_180 1 14 (dk_at dksX0_findPlan_5 12 rfl rfl)
theorem dX0_findPlan_133 : decode cX0_findPlan 133 = .ok (.aload_n 0, 1) := dk_42 (dk_at dksX0_findPlan_5 15 rfl rfl)
theorem dX0_findPlan_134 : decode cX0_findPlan 134 = .ok (.getfield 283, 3) := dk_180 1 27 (dk_at dksX0_findPlan_5 16 rfl rfl)
theorem dX0_findPlan_137 : decode cX0_findPlan 137 = .ok (.if_icmp .eq 20, 3) := dk_159 0 20 (dk_at dksX0_findPlan_5 19 rfl rfl)
theorem dX0_findPlan_140 : decode cX0_findPlan 140 = .ok (.aload_n 0, 1) := dk_42 (dk_at dksX0_findPlan_5 22 rfl rfl)
theorem dX0_findPlan_141 : decode cX0_findPlan 141 = .ok (.getfield 59, 3) := dk_180 0 59 (dk_at dksX0_findPlan_6 0 rfl rfl)
theorem dX0_findPlan_144 : decode cX0_findPlan 144 = .ok (.iload_n 2, 1) := dk_28 (dk_at dksX0_findPlan_6 3 rfl rfl)
theorem dX0_findPlan_145 : decode cX0_findPlan 145 = .ok (.dup2, 1) := dk_92 (dk_at dksX0_findPlan_6 4 rfl rfl)
theorem dX0_findPlan_146 : decode cX0_findPlan 146 = .ok (.iaload, 1) := dk_46 (dk_at dksX0_findPlan_6 5 rfl rfl)
theorem dX0_findPlan_147 : decode cX0_findPlan 147 = .ok (.iconst 1, 1) := dk_4 (dk_at dksX0_findPlan_6 6 rfl rfl)
theorem dX0_findPlan_148 : decode cX0_findPlan 148 = .ok (.iadd, 1) := dk_96 (dk_at dksX0_findPlan_6 7 rfl rfl)
theorem dX0_findPlan_149 : decode cX0_findPlan 149 = .ok (.iastore, 1) := dk_79 (dk_at dksX0_findPlan_6 8 rfl rfl)
theorem dX0_findPlan_150 : decode cX0_findPlan 150 = .ok (.aload_n 0, 1) := dk_42 (dk_at dksX0_findPlan_6 9 rfl rfl)
theorem dX0_findPlan_151 : decode cX0_findPlan 151 = .ok (.invokevirtual 279, 3) := dk_182 1 23 (dk_at dksX0_findPlan_6 10 rfl rfl)
theorem dX0_findPlan_154 : decode cX0_findPlan 154 = .ok (.goto (-36), 3) := dk_167 255 220 (dk_at dksX0_findPlan_6 13 rfl rfl)
theorem dX0_findPlan_157 : decode cX0_findPlan 157 = .ok (.aload_n 0, 1) := dk_42 (dk_at dksX0_findPlan_6 16 rfl rfl)
theorem dX0_findPlan_158 : decode cX0_findPlan 158 = .ok (.getfield 62, 3) := dk_180 0 62 (dk_at dksX0_findPlan_6 17 rfl rfl)
theorem dX0_findPlan_161 : decode cX0_findPlan 161 = .ok (.iload_n 2, 1) := dk_28 (dk_at dksX0_findPlan_6 20 rfl rfl)
theorem dX0_findPlan_162 : decode cX0_findPlan 162 = .ok (.aload_n 0, 1) := dk_42 (dk_at dksX0_findPlan_6 21 rfl rfl)
theorem dX0_findPlan_163 : decode cX0_findPlan 163 = .ok (.getfield 59, 3) := dk_180 0 59 (dk_at dksX0_findPlan_7 0 rfl rfl)
theorem dX0_findPlan_166 : decode cX0_findPlan 166 = .ok (.iload_n 2, 1) := dk_28 (dk_at dksX0_findPlan_7 3 rfl rfl)
theorem dX0_findPlan_167 : decode cX0_findPlan 167 = .ok (.iaload, 1) := dk_46 (dk_at dksX0_findPlan_7 4 rfl rfl)
theorem dX0_findPlan_168 : decode cX0_findPlan 168 = .ok (.iastore, 1) := dk_79 (dk_at dksX0_findPlan_7 5 rfl rfl)
theorem dX0_findPlan_169 : decode cX0_findPlan 169 = .ok (.iinc 2 1, 3) := dk_132 2 1 (dk_at dksX0_findPlan_7 6 rfl rfl)
theorem dX0_findPlan_172 : decode cX0_findPlan 172 = .ok (.goto (-70), 3) := dk_167 255 186 (dk_at dksX0_findPlan_7 9 rfl rfl)
theorem dX0_findPlan_175 : decode cX0_findPlan 175 = .ok (.return_, 1) := dk_177 (dk_at dksX0_findPlan_7 12 rfl rfl)
abbrev cX0_worthOf : ByteArray := prog_1_method_40_code
def yX0_worthOf : MethodName := ⟨RX0, "worthOf", "(I)I"⟩
def dkwX0_worthOf_1 : List UInt8 := [182, 0, 168, 180, 0, 180, 167, 0, 4, 3, 96, 61, 132, 3, 1, 167, 255, 222, 28, 172]
abbrev dktX0_worthOf_1 : List UInt8 := dkwX0_worthOf_1 ++ []
def dkwX0_worthOf_0 : List UInt8 := [3, 61, 3, 62, 29, 42, 182, 0, 166, 162, 0, 32, 28, 27, 29, 184, 0, 223, 153, 0, 14, 42, 29]
abbrev dktX0_worthOf_0 : List UInt8 := dkwX0_worthOf_0 ++ dktX0_worthOf_1
theorem dksX0_worthOf_0 : cX0_worthOf.data.toList.drop 0 = dktX0_worthOf_0 := by decide +kernel
theorem dksX0_worthOf_1 : cX0_worthOf.data.toList.drop 23 = dktX0_worthOf_1 := dk_seg dksX0_worthOf_0 23 rfl rfl
theorem dX0_worthOf_0 : decode cX0_worthOf 0 = .ok (.iconst 0, 1) := dk_3 (dk_at dksX0_worthOf_0 0 rfl rfl)
theorem dX0_worthOf_1 : decode cX0_worthOf 1 = .ok (.istore_n 2, 1) := dk_61 (dk_at dksX0_worthOf_0 1 rfl rfl)
theorem dX0_worthOf_2 : decode cX0_worthOf 2 = .ok (.iconst 0, 1) := dk_3 (dk_at dksX0_worthOf_0 2 rfl rfl)
theorem dX0_worthOf_3 : decode cX0_worthOf 3 = .ok (.istore_n 3, 1) := dk_62 (dk_at dksX0_worthOf_0 3 rfl rfl)
theorem dX0_worthOf_4 : decode cX0_worthOf 4 = .ok (.iload_n 3, 1) := dk_29 (dk_at dksX0_worthOf_0 4 rfl rfl)
theorem dX0_worthOf_5 : decode cX0_worthOf 5 = .ok (.aload_n 0, 1) := dk_42 (dk_at dksX0_worthOf_0 5 rfl rfl)
theorem dX0_worthOf_6 : decode cX0_worthOf 6 = .ok (.invokevirtual 166, 3) := dk_182 0 166 (dk_at dksX0_worthOf_0 6 rfl rfl)
theorem dX0_worthOf_9 : decode cX0_worthOf 9 = .ok (.if_icmp .ge 32, 3) := dk_162 0 32 (dk_at dksX0_worthOf_0 9 rfl rfl)
theorem dX0_worthOf_12 : decode cX0_worthOf 12 = .ok (.iload_n 2, 1) := dk_28 (dk_at dksX0_worthOf_0 12 rfl rfl)
theorem dX0_worthOf_13 : decode cX0_worthOf 13 = .ok (.iload_n 1, 1) := dk_27 (dk_at dksX0_worthOf_0 13 rfl rfl)
theorem dX0_worthOf_14 : decode cX0_worthOf 14 = .ok (.iload_n 3, 1) := dk_29 (dk_at dksX0_worthOf_0 14 rfl rfl)
theorem dX0_worthOf_15 : decode cX0_worthOf 15 = .ok (.invokestatic 223, 3) := dk_184 0 223 (dk_at dksX0_worthOf_0 15 rfl rfl)
theorem dX0_worthOf_18 : decode cX0_worthOf 18 = .ok (.ifCond .eq 14, 3) := dk_153 0 14 (dk_at dksX0_worthOf_0 18 rfl rfl)
theorem dX0_worthOf_21 : decode cX0_worthOf 21 = .ok (.aload_n 0, 1) := dk_42 (dk_at dksX0_worthOf_0 21 rfl rfl)
theorem dX0_worthOf_22 : decode cX0_worthOf 22 = .ok (.iload_n 3, 1) := dk_29 (dk_at dksX0_worthOf_0 22 rfl rfl)
theorem dX0_worthOf_23 : decode cX0_worthOf 23 = .ok (.invokevirtual 168, 3) := dk_182 0 168 (dk_at dksX0_worthOf_1 0 rfl rfl)
theorem dX0_worthOf_26 : decode cX0_worthOf 26 = .ok (.getfield 180, 3) := dk_180 0 180 (dk_at dksX0_worthOf_1 3 rfl rfl)
theorem dX0_worthOf_29 : decode cX0_worthOf 29 = .ok (.goto 4, 3) := dk_167 0 4 (dk_at dksX0_worthOf_1 6 rfl rfl)
theorem dX0_worthOf_32 : decode cX0_worthOf 32 = .ok (.iconst 0, 1) := dk_3 (dk_at dksX0_worthOf_1 9 rfl rfl)
theorem dX0_worthOf_33 : decode cX0_worthOf 33 = .ok (.iadd, 1) := dk_96 (dk_at dksX0_worthOf_1 10 rfl rfl)
theorem dX0_worthOf_34 : decode cX0_worthOf 34 = .ok (.istore_n 2, 1) := dk_61 (dk_at dksX0_worthOf_1 11 rfl rfl)
theorem dX0_worthOf_35 : decode cX0_worthOf 35 = .ok (.iinc 3 1, 3) := dk_132 3 1 (dk_at dksX0_worthOf_1 12 rfl rfl)
theorem dX0_worthOf_38 : decode cX0_worthOf 38 = .ok (.goto (-34), 3) := dk_167 255 222 (dk_at dksX0_worthOf_1 15 rfl rfl)
theorem dX0_worthOf_41 : decode cX0_worthOf 41 = .ok (.iload_n 2, 1) := dk_28 (dk_at dksX0_worthOf_1 18 rfl rfl)
theorem dX0_worthOf_42 : decode cX0_worthOf 42 = .ok (.ireturn, 1) := dk_172 (dk_at dksX0_worthOf_1 19 rfl rfl)
abbrev cX0_costOf : ByteArray := prog_1_method_39_code
def yX0_costOf : MethodName := ⟨RX0, "costOf", "(II)I"⟩
def dkwX0_costOf_6 : List UInt8 := [46, 167, 0, 4, 3, 96, 172]
abbrev dktX0_costOf_6 : List UInt8 := dkwX0_costOf_6 ++ []
def dkwX0_costOf_5 : List UInt8 := [28, 182, 0, 234, 128, 54, 4, 132, 5, 1, 167, 255, 136, 29, 21, 4, 153, 0, 12, 42, 180, 0, 24, 3]
abbrev dktX0_costOf_5 : List UInt8 := dkwX0_costOf_5 ++ dktX0_costOf_6
def dkwX0_costOf_4 : List UInt8 := [42, 21, 5, 182, 0, 168, 28, 182, 0, 230, 182, 0, 244, 96, 62, 21, 4, 42, 42, 21, 5, 182, 0, 168]
abbrev dktX0_costOf_4 : List UInt8 := dkwX0_costOf_4 ++ dktX0_costOf_5
def dkwX0_costOf_3 : List UInt8 := [21, 6, 182, 0, 168, 28, 182, 0, 254, 154, 0, 6, 18, 253, 172, 132, 6, 1, 167, 255, 214, 29, 42, 42]
abbrev dktX0_costOf_3 : List UInt8 := dkwX0_costOf_3 ++ dktX0_costOf_4
def dkwX0_costOf_2 : List UInt8 := [21, 6, 21, 5, 162, 0, 41, 27, 21, 6, 184, 0, 223, 153, 0, 26, 42, 42, 21, 5, 182, 0, 168, 42]
abbrev dktX0_costOf_2 : List UInt8 := dkwX0_costOf_2 ++ dktX0_costOf_3
def dkwX0_costOf_1 : List UInt8 := [153, 0, 102, 42, 42, 21, 5, 182, 0, 168, 28, 182, 0, 238, 154, 0, 6, 18, 253, 172, 3, 54, 6]
abbrev dktX0_costOf_1 : List UInt8 := dkwX0_costOf_1 ++ dktX0_costOf_2
def dkwX0_costOf_0 : List UInt8 := [3, 62, 3, 54, 4, 3, 54, 5, 21, 5, 42, 182, 0, 166, 162, 0, 117, 27, 21, 5, 184, 0, 223]
abbrev dktX0_costOf_0 : List UInt8 := dkwX0_costOf_0 ++ dktX0_costOf_1
theorem dksX0_costOf_0 : cX0_costOf.data.toList.drop 0 = dktX0_costOf_0 := by decide +kernel
theorem dksX0_costOf_1 : cX0_costOf.data.toList.drop 23 = dktX0_costOf_1 := dk_seg dksX0_costOf_0 23 rfl rfl
theorem dksX0_costOf_2 : cX0_costOf.data.toList.drop 46 = dktX0_costOf_2 := dk_seg dksX0_costOf_1 23 rfl rfl
theorem dksX0_costOf_3 : cX0_costOf.data.toList.drop 70 = dktX0_costOf_3 := dk_seg dksX0_costOf_2 24 rfl rfl
theorem dksX0_costOf_4 : cX0_costOf.data.toList.drop 94 = dktX0_costOf_4 := dk_seg dksX0_costOf_3 24 rfl rfl
theorem dksX0_costOf_5 : cX0_costOf.data.toList.drop 118 = dktX0_costOf_5 := dk_seg dksX0_costOf_4 24 rfl rfl
theorem dksX0_costOf_6 : cX0_costOf.data.toList.drop 142 = dktX0_costOf_6 := dk_seg dksX0_costOf_5 24 rfl rfl
theorem dX0_costOf_0 : decode cX0_costOf 0 = .ok (.iconst 0, 1) := dk_3 (dk_at dksX0_costOf_0 0 rfl rfl)
theorem dX0_costOf_1 : decode cX0_costOf 1 = .ok (.istore_n 3, 1) := dk_62 (dk_at dksX0_costOf_0 1 rfl rfl)
theorem dX0_costOf_2 : decode cX0_costOf 2 = .ok (.iconst 0, 1) := dk_3 (dk_at dksX0_costOf_0 2 rfl rfl)
theorem dX0_costOf_3 : decode cX0_costOf 3 = .ok (.istore 4, 2) := dk_54 4 (dk_at dksX0_costOf_0 3 rfl rfl)
theorem dX0_costOf_5 : decode cX0_costOf 5 = .ok (.iconst 0, 1) := dk_3 (dk_at dksX0_costOf_0 5 rfl rfl)
theorem dX0_costOf_6 : decode cX0_costOf 6 = .ok (.istore 5, 2) := dk_54 5 (dk_at dksX0_costOf_0 6 rfl rfl)
theorem dX0_costOf_8 : decode cX0_costOf 8 = .ok (.iload 5, 2) := dk_21 5 (dk_at dksX0_costOf_0 8 rfl rfl)
theorem dX0_costOf_10 : decode cX0_costOf 10 = .ok (.aload_n 0, 1) := dk_42 (dk_at dksX0_costOf_0 10 rfl rfl)
theorem dX0_costOf_11 : decode cX0_costOf 11 = .ok (.invokevirtual 166, 3) := dk_182 0 166 (dk_at dksX0_costOf_0 11 rfl rfl)
theorem dX0_costOf_14 : decode cX0_costOf 14 = .ok (.if_icmp .ge 117, 3) := dk_162 0 117 (dk_at dksX0_costOf_0 14 rfl rfl)
theorem dX0_costOf_17 : decode cX0_costOf 17 = .ok (.iload_n 1, 1) := dk_27 (dk_at dksX0_costOf_0 17 rfl rfl)
theorem dX0_costOf_18 : decode cX0_costOf 18 = .ok (.iload 5, 2) := dk_21 5 (dk_at dksX0_costOf_0 18 rfl rfl)
theorem dX0_costOf_20 : decode cX0_costOf 20 = .ok (.invokestatic 223, 3) := dk_184 0 223 (dk_at dksX0_costOf_0 20 rfl rfl)
theorem dX0_costOf_23 : decode cX0_costOf 23 = .ok (.ifCond .eq 102, 3) := dk_153 0 102 (dk_at dksX0_costOf_1 0 rfl rfl)
theorem dX0_costOf_26 : decode cX0_costOf 26 = .ok (.aload_n 0, 1) := dk_42 (dk_at dksX0_costOf_1 3 rfl rfl)
theorem dX0_costOf_27 : decode cX0_costOf 27 = .ok (.aload_n 0, 1) := dk_42 (dk_at dksX0_costOf_1 4 rfl rfl)
theorem dX0_costOf_28 : decode cX0_costOf 28 = .ok (.iload 5, 2) := dk_21 5 (dk_at dksX0_costOf_1 5 rfl rfl)
theorem dX0_costOf_30 : decode cX0_costOf 30 = .ok (.invokevirtual 168, 3) := dk_182 0 168 (dk_at dksX0_costOf_1 7 rfl rfl)
theorem dX0_costOf_33 : decode cX0_costOf 33 = .ok (.iload_n 2, 1) := dk_28 (dk_at dksX0_costOf_1 10 rfl rfl)
theorem dX0_costOf_34 : decode cX0_costOf 34 = .ok (.invokevirtual 238, 3) := dk_182 0 238 (dk_at dksX0_costOf_1 11 rfl rfl)
theorem dX0_costOf_37 : decode cX0_costOf 37 = .ok (.ifCond .ne 6, 3) := dk_154 0 6 (dk_at dksX0_costOf_1 14 rfl rfl)
theorem dX0_costOf_40 : decode cX0_costOf 40 = .ok (.ldc 253, 2) := dk_18 253 (dk_at dksX0_costOf_1 17 rfl rfl)
theorem dX0_costOf_42 : decode cX0_costOf 42 = .ok (.ireturn, 1) := dk_172 (dk_at dksX0_costOf_1 19 rfl rfl)
theorem dX0_costOf_43 : decode cX0_costOf 43 = .ok (.iconst 0, 1) := dk_3 (dk_at dksX0_costOf_1 20 rfl rfl)
theorem dX0_costOf_44 : decode cX0_costOf 44 = .ok (.istore 6, 2) := dk_54 6 (dk_at dksX0_costOf_1 21 rfl rfl)
theorem dX0_costOf_46 : decode cX0_costOf 46 = .ok (.iload 6, 2) := dk_21 6 (dk_at dksX0_costOf_2 0 rfl rfl)
theorem dX0_costOf_48 : decode cX0_costOf 48 = .ok (.iload 5, 2) := dk_21 5 (dk_at dksX0_costOf_2 2 rfl rfl)
theorem dX0_costOf_50 : decode cX0_costOf 50 = .ok (.if_icmp .ge 41, 3) := dk_162 0 41 (dk_at dksX0_costOf_2 4 rfl rfl)
theorem dX0_costOf_53 : decode cX0_costOf 53 = .ok (.iload_n 1, 1) := dk_27 (dk_at dksX0_costOf_2 7 rfl rfl)
theorem dX0_costOf_54 : decode cX0_costOf 54 = .ok (.iload 6, 2) := dk_21 6 (dk_at dksX0_costOf_2 8 rfl rfl)
theorem dX0_costOf_56 : decode cX0_costOf 56 = .ok (.invokestatic 223, 3) := dk_184 0 223 (dk_at dksX0_costOf_2 10 rfl rfl)
theorem dX0_costOf_59 : decode cX0_costOf 59 = .ok (.ifCond .eq 26, 3) := dk_153 0 26 (dk_at dksX0_costOf_2 13 rfl rfl)
theorem dX0_costOf_62 : decode cX0_costOf 62 = .ok (.aload_n 0, 1) := dk_42 (dk_at dksX0_costOf_2 16 rfl rfl)
theorem dX0_costOf_63 : decode cX0_costOf 63 = .ok (.aload_n 0, 1) := dk_42 (dk_at dksX0_costOf_2 17 rfl rfl)
theorem dX0_costOf_64 : decode cX0_costOf 64 = .ok (.iload 5, 2) := dk_21 5 (dk_at dksX0_costOf_2 18 rfl rfl)
theorem dX0_costOf_66 : decode cX0_costOf 66 = .ok (.invokevirtual 168, 3) := dk_182 0 168 (dk_at dksX0_costOf_2 20 rfl rfl)
theorem dX0_costOf_69 : decode cX0_costOf 69 = .ok (.aload_n 0, 1) := dk_42 (dk_at dksX0_costOf_2 23 rfl rfl)
theorem dX0_costOf_70 : decode cX0_costOf 70 = .ok (.iload 6, 2) := dk_21 6 (dk_at dksX0_costOf_3 0 rfl rfl)
theorem dX0_costOf_72 : decode cX0_costOf 72 = .ok (.invokevirtual 168, 3) := dk_182 0 168 (dk_at dksX0_costOf_3 2 rfl rfl)
theorem dX0_costOf_75 : decode cX0_costOf 75 = .ok (.iload_n 2, 1) := dk_28 (dk_at dksX0_costOf_3 5 rfl rfl)
theorem dX0_costOf_76 : decode cX0_costOf 76 = .ok (.invokevirtual 254, 3) := dk_182 0 254 (dk_at dksX0_costOf_3 6 rfl rfl)
theorem dX0_costOf_79 : decode cX0_costOf 79 = .ok (.ifCond .ne 6, 3) := dk_154 0 6 (dk_at dksX0_costOf_3 9 rfl rfl)
theorem dX0_costOf_82 : decode cX0_costOf 82 = .ok (.ldc 253, 2) := dk_18 253 (dk_at dksX0_costOf_3 12 rfl rfl)
theorem dX0_costOf_84 : decode cX0_costOf 84 = .ok (.ireturn, 1) := dk_172 (dk_at dksX0_costOf_3 14 rfl rfl)
theorem dX0_costOf_85 : decode cX0_costOf 85 = .ok (.iinc 6 1, 3) := dk_132 6 1 (dk_at dksX0_costOf_3 15 rfl rfl)
theorem dX0_costOf_88 : decode cX0_costOf 88 = .ok (.goto (-42), 3) := dk_167 255 214 (dk_at dksX0_costOf_3 18 rfl rfl)
theorem dX0_costOf_91 : decode cX0_costOf 91 = .ok (.iload_n 3, 1) := dk_29 (dk_at dksX0_costOf_3 21 rfl rfl)
theorem dX0_costOf_92 : decode cX0_costOf 92 = .ok (.aload_n 0, 1) := dk_42 (dk_at dksX0_costOf_3 22 rfl rfl)
theorem dX0_costOf_93 : decode cX0_costOf 93 = .ok (.aload_n 0, 1) := dk_42 (dk_at dksX0_costOf_3 23 rfl rfl)
theorem dX0_costOf_94 : decode cX0_costOf 94 = .ok (.aload_n 0, 1) := dk_42 (dk_at dksX0_costOf_4 0 rfl rfl)
theorem dX0_costOf_95 : decode cX0_costOf 95 = .ok (.iload 5, 2) := dk_21 5 (dk_at dksX0_costOf_4 1 rfl rfl)
theorem dX0_costOf_97 : decode cX0_costOf 97 = .ok (.invokevirtual 168, 3) := dk_182 0 168 (dk_at dksX0_costOf_4 3 rfl rfl)
theorem dX0_costOf_100 : decode cX0_costOf 100 = .ok (.iload_n 2, 1) := dk_28 (dk_at dksX0_costOf_4 6 rfl rfl)
theorem dX0_costOf_101 : decode cX0_costOf 101 = .ok (.invokevirtual 230, 3) := dk_182 0 230 (dk_at dksX0_costOf_4 7 rfl rfl)
theorem dX0_costOf_104 : decode cX0_costOf 104 = .ok (.invokevirtual 244, 3) := dk_182 0 244 (dk_at dksX0_costOf_4 10 rfl rfl)
theorem dX0_costOf_107 : decode cX0_costOf 107 = .ok (.iadd, 1) := dk_96 (dk_at dksX0_costOf_4 13 rfl rfl)
theorem dX0_costOf_108 : decode cX0_costOf 108 = .ok (.istore_n 3, 1) := dk_62 (dk_at dksX0_costOf_4 14 rfl rfl)
theorem dX0_costOf_109 : decode cX0_costOf 109 = .ok (.iload 4, 2) := dk_21 4 (dk_at dksX0_costOf_4 15 rfl rfl)
theorem dX0_costOf_111 : decode cX0_costOf 111 = .ok (.aload_n 0, 1) := dk_42 (dk_at dksX0_costOf_4 17 rfl rfl)
theorem dX0_costOf_112 : decode cX0_costOf 112 = .ok (.aload_n 0, 1) := dk_42 (dk_at dksX0_costOf_4 18 rfl rfl)
theorem dX0_costOf_113 : decode cX0_costOf 113 = .ok (.iload 5, 2) := dk_21 5 (dk_at dksX0_costOf_4 19 rfl rfl)
theorem dX0_costOf_115 : decode cX0_costOf 115 = .ok (.invokevirtual 168, 3) := dk_182 0 168 (dk_at dksX0_costOf_4 21 rfl rfl)
theorem dX0_costOf_118 : decode cX0_costOf 118 = .ok (.iload_n 2, 1) := dk_28 (dk_at dksX0_costOf_5 0 rfl rfl)
theorem dX0_costOf_119 : decode cX0_costOf 119 = .ok (.invokevirtual 234, 3) := dk_182 0 234 (dk_at dksX0_costOf_5 1 rfl rfl)
theorem dX0_costOf_122 : decode cX0_costOf 122 = .ok (.ior, 1) := dk_128 (dk_at dksX0_costOf_5 4 rfl rfl)
theorem dX0_costOf_123 : decode cX0_costOf 123 = .ok (.istore 4, 2) := dk_54 4 (dk_at dksX0_costOf_5 5 rfl rfl)
theorem dX0_costOf_125 : decode cX0_costOf 125 = .ok (.iinc 5 1, 3) := dk_132 5 1 (dk_at dksX0_costOf_5 7 rfl rfl)
theorem dX0_costOf_128 : decode cX0_costOf 128 = .ok (.goto (-120), 3) := dk_167 255 136 (dk_at dksX0_costOf_5 10 rfl rfl)
theorem dX0_costOf_131 : decode cX0_costOf 131 = .ok (.iload_n 3, 1) := dk_29 (dk_at dksX0_costOf_5 13 rfl rfl)
theorem dX0_costOf_132 : decode cX0_costOf 132 = .ok (.iload 4, 2) := dk_21 4 (dk_at dksX0_costOf_5 14 rfl rfl)
theorem dX0_costOf_134 : decode cX0_costOf 134 = .ok (.ifCond .eq 12, 3) := dk_153 0 12 (dk_at dksX0_costOf_5 16 rfl rfl)
theorem dX0_costOf_137 : decode cX0_costOf 137 = .ok (.aload_n 0, 1) := dk_42 (dk_at dksX0_costOf_5 19 rfl rfl)
theorem dX0_costOf_138 : decode cX0_costOf 138 = .ok (.getfield 24, 3) := dk_180 0 24 (dk_at dksX0_costOf_5 20 rfl rfl)
theorem dX0_costOf_141 : decode cX0_costOf 141 = .ok (.iconst 0, 1) := dk_3 (dk_at dksX0_costOf_5 23 rfl rfl)
theorem dX0_costOf_142 : decode cX0_costOf 142 = .ok (.iaload, 1) := dk_46 (dk_at dksX0_costOf_6 0 rfl rfl)
theorem dX0_costOf_143 : decode cX0_costOf 143 = .ok (.goto 4, 3) := dk_167 0 4 (dk_at dksX0_costOf_6 1 rfl rfl)
theorem dX0_costOf_146 : decode cX0_costOf 146 = .ok (.iconst 0, 1) := dk_3 (dk_at dksX0_costOf_6 4 rfl rfl)
theorem dX0_costOf_147 : decode cX0_costOf 147 = .ok (.iadd, 1) := dk_96 (dk_at dksX0_costOf_6 5 rfl rfl)
theorem dX0_costOf_148 : decode cX0_costOf 148 = .ok (.ireturn, 1) := dk_172 (dk_at dksX0_costOf_6 6 rfl rfl)
abbrev cX0_goTogether : ByteArray := prog_1_method_38_code
def yX0_goTogether : MethodName := ⟨RX0, "goTogether", "(LSecondChances$Deed;LSecondChances$Deed;I)Z"⟩
def dkwX0_goTogether_4 : List UInt8 := [153, 0, 17, 21, 5, 154, 0, 12, 21, 6, 154, 0, 7, 4, 167, 0, 4, 3, 172]
abbrev dktX0_goTogether_4 : List UInt8 := dkwX0_goTogether_4 ++ []
def dkwX0_goTogether_3 : List UInt8 := [153, 0, 18, 43, 180, 0, 178, 44, 180, 0, 178, 159, 0, 7, 4, 167, 0, 4, 3, 54, 6, 21, 4]
abbrev dktX0_goTogether_3 : List UInt8 := dkwX0_goTogether_3 ++ dktX0_goTogether_4
def dkwX0_goTogether_2 : List UInt8 := [160, 0, 7, 4, 167, 0, 4, 3, 54, 5, 42, 43, 182, 0, 207, 153, 0, 26, 42, 44, 182, 0, 207]
abbrev dktX0_goTogether_2 : List UInt8 := dkwX0_goTogether_2 ++ dktX0_goTogether_3
def dkwX0_goTogether_1 : List UInt8 := [43, 182, 0, 250, 153, 0, 26, 42, 44, 182, 0, 250, 153, 0, 18, 43, 180, 0, 175, 44, 180, 0, 175]
abbrev dktX0_goTogether_1 : List UInt8 := dkwX0_goTogether_1 ++ dktX0_goTogether_2
def dkwX0_goTogether_0 : List UInt8 := [42, 43, 29, 182, 0, 230, 42, 44, 29, 182, 0, 230, 126, 154, 0, 7, 4, 167, 0, 4, 3, 54, 4, 42]
abbrev dktX0_goTogether_0 : List UInt8 := dkwX0_goTogether_0 ++ dktX0_goTogether_1
theorem dksX0_goTogether_0 : cX0_goTogether.data.toList.drop 0 = dktX0_goTogether_0 := by decide +kernel
theorem dksX0_goTogether_1 : cX0_goTogether.data.toList.drop 24 = dktX0_goTogether_1 := dk_seg dksX0_goTogether_0 24 rfl rfl
theorem dksX0_goTogether_2 : cX0_goTogether.data.toList.drop 47 = dktX0_goTogether_2 := dk_seg dksX0_goTogether_1 23 rfl rfl
theorem dksX0_goTogether_3 : cX0_goTogether.data.toList.drop 70 = dktX0_goTogether_3 := dk_seg dksX0_goTogether_2 23 rfl rfl
theorem dksX0_goTogether_4 : cX0_goTogether.data.toList.drop 93 = dktX0_goTogether_4 := dk_seg dksX0_goTogether_3 23 rfl rfl
theorem dX0_goTogether_0 : decode cX0_goTogether 0 = .ok (.aload_n 0, 1) := dk_42 (dk_at dksX0_goTogether_0 0 rfl rfl)
theorem dX0_goTogether_1 : decode cX0_goTogether 1 = .ok (.aload_n 1, 1) := dk_43 (dk_at dksX0_goTogether_0 1 rfl rfl)
theorem dX0_goTogether_2 : decode cX0_goTogether 2 = .ok (.iload_n 3, 1) := dk_29 (dk_at dksX0_goTogether_0 2 rfl rfl)
theorem dX0_goTogether_3 : decode cX0_goTogether 3 = .ok (.invokevirtual 230, 3) := dk_182 0 230 (dk_at dksX0_goTogether_0 3 rfl rfl)
theorem dX0_goTogether_6 : decode cX0_goTogether 6 = .ok (.aload_n 0, 1) := dk_42 (dk_at dksX0_goTogether_0 6 rfl rfl)
theorem dX0_goTogether_7 : decode cX0_goTogether 7 = .ok (.aload_n 2, 1) := dk_44 (dk_at dksX0_goTogether_0 7 rfl rfl)
theorem dX0_goTogether_8 : decode cX0_goTogether 8 = .ok (.iload_n 3, 1) := dk_29 (dk_at dksX0_goTogether_0 8 rfl rfl)
theorem dX0_goTogether_9 : decode cX0_goTogether 9 = .ok (.invokevirtual 230, 3) := dk_182 0 230 (dk_at dksX0_goTogether_0 9 rfl rfl)
theorem dX0_goTogether_12 : decode cX0_goTogether 12 = .ok (.iand, 1) := dk_126 (dk_at dksX0_goTogether_0 12 rfl rfl)
theorem dX0_goTogether_13 : decode cX0_goTogether 13 = .ok (.ifCond .ne 7, 3) := dk_154 0 7 (dk_at dksX0_goTogether_0 13 rfl rfl)
theorem dX0_goTogether_16 : decode cX0_goTogether 16 = .ok (.iconst 1, 1) := dk_4 (dk_at dksX0_goTogether_0 16 rfl rfl)
theorem dX0_goTogether_17 : decode cX0_goTogether 17 = .ok (.goto 4, 3) := dk_167 0 4 (dk_at dksX0_goTogether_0 17 rfl rfl)
theorem dX0_goTogether_20 : decode cX0_goTogether 20 = .ok (.iconst 0, 1) := dk_3 (dk_at dksX0_goTogether_0 20 rfl rfl)
theorem dX0_goTogether_21 : decode cX0_goTogether 21 = .ok (.istore 4, 2) := dk_54 4 (dk_at dksX0_goTogether_0 21 rfl rfl)
theorem dX0_goTogether_23 : decode cX0_goTogether 23 = .ok (.aload_n 0, 1) := dk_42 (dk_at dksX0_goTogether_0 23 rfl rfl)
theorem dX0_goTogether_24 : decode cX0_goTogether 24 = .ok (.aload_n 1, 1) := dk_43 (dk_at dksX0_goTogether_1 0 rfl rfl)
theorem dX0_goTogether_25 : decode cX0_goTogether 25 = .ok (.invokevirtual 250, 3) := dk_182 0 250 (dk_at dksX0_goTogether_1 1 rfl rfl)
theorem dX0_goTogether_28 : decode cX0_goTogether 28 = .ok (.ifCond .eq 26, 3) := dk_153 0 26 (dk_at dksX0_goTogether_1 4 rfl rfl)
theorem dX0_goTogether_31 : decode cX0_goTogether 31 = .ok (.aload_n 0, 1) := dk_42 (dk_at dksX0_goTogether_1 7 rfl rfl)
theorem dX0_goTogether_32 : decode cX0_goTogether 32 = .ok (.aload_n 2, 1) := dk_44 (dk_at dksX0_goTogether_1 8 rfl rfl)
theorem dX0_goTogether_33 : decode cX0_goTogether 33 = .ok (.invokevirtual 250, 3) := dk_182 0 250 (dk_at dksX0_goTogether_1 9 rfl rfl)
theorem dX0_goTogether_36 : decode cX0_goTogether 36 = .ok (.ifCond .eq 18, 3) := dk_153 0 18 (dk_at dksX0_goTogether_1 12 rfl rfl)
theorem dX0_goTogether_39 : decode cX0_goTogether 39 = .ok (.aload_n 1, 1) := dk_43 (dk_at dksX0_goTogether_1 15 rfl rfl)
theorem dX0_goTogether_40 : decode cX0_goTogether 40 = .ok (.getfield 175, 3) := dk_180 0 175 (dk_at dksX0_goTogether_1 16 rfl rfl)
theorem dX0_goTogether_43 : decode cX0_goTogether 43 = .ok (.aload_n 2, 1) := dk_44 (dk_at dksX0_goTogether_1 19 rfl rfl)
theorem dX0_goTogether_44 : decode cX0_goTogether 44 = .ok (.getfield 175, 3) := dk_180 0 175 (dk_at dksX0_goTogether_1 20 rfl rfl)
theorem dX0_goTogether_47 : decode cX0_goTogether 47 = .ok (.if_icmp .ne 7, 3) := dk_160 0 7 (dk_at dksX0_goTogether_2 0 rfl rfl)
theorem dX0_goTogether_50 : decode cX0_goTogether 50 = .ok (.iconst 1, 1) := dk_4 (dk_at dksX0_goTogether_2 3 rfl rfl)
theorem dX0_goTogether_51 : decode cX0_goTogether 51 = .ok (.goto 4, 3) := dk_167 0 4 (dk_at dksX0_goTogether_2 4 rfl rfl)
theorem dX0_goTogether_54 : decode cX0_goTogether 54 = .ok (.iconst 0, 1) := dk_3 (dk_at dksX0_goTogether_2 7 rfl rfl)
theorem dX0_goTogether_55 : decode cX0_goTogether 55 = .ok (.istore 5, 2) := dk_54 5 (dk_at dksX0_goTogether_2 8 rfl rfl)
theorem dX0_goTogether_57 : decode cX0_goTogether 57 = .ok (.aload_n 0, 1) := dk_42 (dk_at dksX0_goTogether_2 10 rfl rfl)
theorem dX0_goTogether_58 : decode cX0_goTogether 58 = .ok (.aload_n 1, 1) := dk_43 (dk_at dksX0_goTogether_2 11 rfl rfl)
theorem dX0_goTogether_59 : decode cX0_goTogether 59 = .ok (.invokevirtual 207, 3) := dk_182 0 207 (dk_at dksX0_goTogether_2 12 rfl rfl)
theorem dX0_goTogether_62 : decode cX0_goTogether 62 = .ok (.ifCond .eq 26, 3) := dk_153 0 26 (dk_at dksX0_goTogether_2 15 rfl rfl)
theorem dX0_goTogether_65 : decode cX0_goTogether 65 = .ok (.aload_n 0, 1) := dk_42 (dk_at dksX0_goTogether_2 18 rfl rfl)
theorem dX0_goTogether_66 : decode cX0_goTogether 66 = .ok (.aload_n 2, 1) := dk_44 (dk_at dksX0_goTogether_2 19 rfl rfl)
theorem dX0_goTogether_67 : decode cX0_goTogether 67 = .ok (.invokevirtual 207, 3) := dk_182 0 207 (dk_at dksX0_goTogether_2 20 rfl rfl)
theorem dX0_goTogether_70 : decode cX0_goTogether 70 = .ok (.ifCond .eq 18, 3) := dk_153 0 18 (dk_at dksX0_goTogether_3 0 rfl rfl)
theorem dX0_goTogether_73 : decode cX0_goTogether 73 = .ok (.aload_n 1, 1) := dk_43 (dk_at dksX0_goTogether_3 3 rfl rfl)
theorem dX0_goTogether_74 : decode cX0_goTogether 74 = .ok (.getfield 178, 3) := dk_180 0 178 (dk_at dksX0_goTogether_3 4 rfl rfl)
theorem dX0_goTogether_77 : decode cX0_goTogether 77 = .ok (.aload_n 2, 1) := dk_44 (dk_at dksX0_goTogether_3 7 rfl rfl)
theorem dX0_goTogether_78 : decode cX0_goTogether 78 = .ok (.getfield 178, 3) := dk_180 0 178 (dk_at dksX0_goTogether_3 8 rfl rfl)
theorem dX0_goTogether_81 : decode cX0_goTogether 81 = .ok (.if_icmp .eq 7, 3) := dk_159 0 7 (dk_at dksX0_goTogether_3 11 rfl rfl)
theorem dX0_goTogether_84 : decode cX0_goTogether 84 = .ok (.iconst 1, 1) := dk_4 (dk_at dksX0_goTogether_3 14 rfl rfl)
theorem dX0_goTogether_85 : decode cX0_goTogether 85 = .ok (.goto 4, 3) := dk_167 0 4 (dk_at dksX0_goTogether_3 15 rfl rfl)
theorem dX0_goTogether_88 : decode cX0_goTogether 88 = .ok (.iconst 0, 1) := dk_3 (dk_at dksX0_goTogether_3 18 rfl rfl)
theorem dX0_goTogether_89 : decode cX0_goTogether 89 = .ok (.istore 6, 2) := dk_54 6 (dk_at dksX0_goTogether_3 19 rfl rfl)
theorem dX0_goTogether_91 : decode cX0_goTogether 91 = .ok (.iload 4, 2) := dk_21 4 (dk_at dksX0_goTogether_3 21 rfl rfl)
theorem dX0_goTogether_93 : decode cX0_goTogether 93 = .ok (.ifCond .eq 17, 3) := dk_153 0 17 (dk_at dksX0_goTogether_4 0 rfl rfl)
theorem dX0_goTogether_96 : decode cX0_goTogether 96 = .ok (.iload 5, 2) := dk_21 5 (dk_at dksX0_goTogether_4 3 rfl rfl)
theorem dX0_goTogether_98 : decode cX0_goTogether 98 = .ok (.ifCond .ne 12, 3) := dk_154 0 12 (dk_at dksX0_goTogether_4 5 rfl rfl)
theorem dX0_goTogether_101 : decode cX0_goTogether 101 = .ok (.iload 6, 2) := dk_21 6 (dk_at dksX0_goTogether_4 8 rfl rfl)
theorem dX0_goTogether_103 : decode cX0_goTogether 103 = .ok (.ifCond .ne 7, 3) := dk_154 0 7 (dk_at dksX0_goTogether_4 10 rfl rfl)
theorem dX0_goTogether_106 : decode cX0_goTogether 106 = .ok (.iconst 1, 1) := dk_4 (dk_at dksX0_goTogether_4 13 rfl rfl)
theorem dX0_goTogether_107 : decode cX0_goTogether 107 = .ok (.goto 4, 3) := dk_167 0 4 (dk_at dksX0_goTogether_4 14 rfl rfl)
theorem dX0_goTogether_110 : decode cX0_goTogether 110 = .ok (.iconst 0, 1) := dk_3 (dk_at dksX0_goTogether_4 17 rfl rfl)
theorem dX0_goTogether_111 : decode cX0_goTogether 111 = .ok (.ireturn, 1) := dk_172 (dk_at dksX0_goTogether_4 18 rfl rfl)
abbrev cX0_asksPlace : ByteArray := prog_1_method_26_code
def yX0_asksPlace : MethodName := ⟨RX0, "asksPlace", "(LSecondChances$Deed;)Z"⟩
def dkwX0_asksPlace_0 : List UInt8 := [42, 180, 0, 41, 180, 0, 200, 43, 180, 0, 172, 51, 172]
abbrev dktX0_asksPlace_0 : List UInt8 := dkwX0_asksPlace_0 ++ []
theorem dksX0_asksPlace_0 : cX0_asksPlace.data.toList.drop 0 = dktX0_asksPlace_0 := by decide +kernel
theorem dX0_asksPlace_0 : decode cX0_asksPlace 0 = .ok (.aload_n 0, 1) := dk_42 (dk_at dksX0_asksPlace_0 0 rfl rfl)
theorem dX0_asksPlace_1 : decode cX0_asksPlace 1 = .ok (.getfield 41, 3) := dk_180 0 41 (dk_at dksX0_asksPlace_0 1 rfl rfl)
theorem dX0_asksPlace_4 : decode cX0_asksPlace 4 = .ok (.getfield 200, 3) := dk_180 0 200 (dk_at dksX0_asksPlace_0 4 rfl rfl)
theorem dX0_asksPlace_7 : decode cX0_asksPlace 7 = .ok (.aload_n 1, 1) := dk_43 (dk_at dksX0_asksPlace_0 7 rfl rfl)
theorem dX0_asksPlace_8 : decode cX0_asksPlace 8 = .ok (.getfield 172, 3) := dk_180 0 172 (dk_at dksX0_asksPlace_0 8 rfl rfl)
theorem dX0_asksPlace_11 : decode cX0_asksPlace 11 = .ok (.baload, 1) := dk_51 (dk_at dksX0_asksPlace_0 11 rfl rfl)
theorem dX0_asksPlace_12 : decode cX0_asksPlace 12 = .ok (.ireturn, 1) := dk_172 (dk_at dksX0_asksPlace_0 12 rfl rfl)
abbrev cX0_findBest : ByteArray := prog_1_method_42_code
def yX0_findBest : MethodName := ⟨RX0, "findBest", "()V"⟩
def dkwX0_findBest_13 : List UInt8 := [181, 1, 14, 132, 2, 1, 167, 255, 153, 177]
abbrev dktX0_findBest_13 : List UInt8 := dkwX0_findBest_13 ++ []
def dkwX0_findBest_12 : List UInt8 := [180, 1, 14, 162, 0, 23, 42, 42, 180, 0, 50, 28, 46, 181, 1, 11, 42, 42, 180, 0, 53, 28, 46]
abbrev dktX0_findBest_12 : List UInt8 := dkwX0_findBest_12 ++ dktX0_findBest_13
def dkwX0_findBest_11 : List UInt8 := [163, 0, 29, 42, 180, 0, 50, 28, 46, 42, 180, 1, 11, 160, 0, 36, 42, 180, 0, 53, 28, 46, 42]
abbrev dktX0_findBest_11 : List UInt8 := dkwX0_findBest_11 ++ dktX0_findBest_12
def dkwX0_findBest_10 : List UInt8 := [163, 0, 7, 4, 167, 0, 4, 3, 62, 29, 153, 0, 62, 42, 180, 0, 50, 28, 46, 42, 180, 1, 11]
abbrev dktX0_findBest_10 : List UInt8 := dkwX0_findBest_10 ++ dktX0_findBest_11
def dkwX0_findBest_9 : List UInt8 := [180, 0, 53, 28, 46, 18, 253, 162, 0, 22, 42, 180, 0, 53, 28, 46, 42, 180, 0, 24, 5, 46]
abbrev dktX0_findBest_9 : List UInt8 := dkwX0_findBest_9 ++ dktX0_findBest_10
def dkwX0_findBest_8 : List UInt8 := [167, 255, 150, 132, 2, 1, 167, 255, 101, 42, 2, 181, 1, 11, 3, 61, 28, 27, 162, 0, 104, 42]
abbrev dktX0_findBest_8 : List UInt8 := dkwX0_findBest_8 ++ dktX0_findBest_9
def dkwX0_findBest_7 : List UInt8 := [154, 0, 7, 2, 167, 0, 10, 21, 5, 4, 100, 21, 4, 126, 54, 5, 167, 255, 196, 132, 3, 1]
abbrev dktX0_findBest_7 : List UInt8 := dkwX0_findBest_7 ++ dktX0_findBest_8
def dkwX0_findBest_6 : List UInt8 := [42, 180, 0, 56, 21, 5, 46, 42, 180, 0, 47, 28, 50, 29, 46, 96, 184, 0, 214, 79, 21, 5]
abbrev dktX0_findBest_6 : List UInt8 := dkwX0_findBest_6 ++ dktX0_findBest_7
def dkwX0_findBest_5 : List UInt8 := [54, 5, 21, 5, 155, 0, 61, 42, 180, 0, 53, 21, 5, 29, 128, 42, 180, 0, 53, 21, 5, 29, 128, 46]
abbrev dktX0_findBest_5 : List UInt8 := dkwX0_findBest_5 ++ dktX0_findBest_6
def dkwX0_findBest_4 : List UInt8 := [162, 0, 88, 42, 29, 28, 182, 1, 8, 153, 0, 79, 27, 4, 100, 29, 2, 130, 126, 54, 4, 21, 4]
abbrev dktX0_findBest_4 : List UInt8 := dkwX0_findBest_4 ++ dktX0_findBest_5
def dkwX0_findBest_3 : List UInt8 := [79, 132, 3, 1, 167, 255, 240, 3, 62, 29, 27, 162, 0, 107, 42, 180, 0, 47, 28, 50, 29, 46, 18, 253]
abbrev dktX0_findBest_3 : List UInt8 := dkwX0_findBest_3 ++ dktX0_findBest_4
def dkwX0_findBest_2 : List UInt8 := [3, 42, 180, 0, 56, 3, 27, 184, 1, 2, 3, 62, 29, 27, 162, 0, 17, 42, 180, 0, 53, 29, 18, 253]
abbrev dktX0_findBest_2 : List UInt8 := dkwX0_findBest_2 ++ dktX0_findBest_3
def dkwX0_findBest_1 : List UInt8 := [167, 0, 5, 18, 253, 79, 132, 2, 1, 167, 255, 232, 3, 61, 28, 16, 8, 162, 0, 155, 42, 180, 0, 53]
abbrev dktX0_findBest_1 : List UInt8 := dkwX0_findBest_1 ++ dktX0_findBest_2
def dkwX0_findBest_0 : List UInt8 := [4, 42, 182, 0, 166, 120, 60, 3, 61, 28, 27, 162, 0, 25, 42, 180, 0, 53, 28, 28, 154, 0, 7, 3]
abbrev dktX0_findBest_0 : List UInt8 := dkwX0_findBest_0 ++ dktX0_findBest_1
theorem dksX0_findBest_0 : cX0_findBest.data.toList.drop 0 = dktX0_findBest_0 := by decide +kernel
theorem dksX0_findBest_1 : cX0_findBest.data.toList.drop 24 = dktX0_findBest_1 := dk_seg dksX0_findBest_0 24 rfl rfl
theorem dksX0_findBest_2 : cX0_findBest.data.toList.drop 48 = dktX0_findBest_2 := dk_seg dksX0_findBest_1 24 rfl rfl
theorem dksX0_findBest_3 : cX0_findBest.data.toList.drop 72 = dktX0_findBest_3 := dk_seg dksX0_findBest_2 24 rfl rfl
theorem dksX0_findBest_4 : cX0_findBest.data.toList.drop 96 = dktX0_findBest_4 := dk_seg dksX0_findBest_3 24 rfl rfl
theorem dksX0_findBest_5 : cX0_findBest.data.toList.drop 119 = dktX0_findBest_5 := dk_seg dksX0_findBest_4 23 rfl rfl
theorem dksX0_findBest_6 : cX0_findBest.data.toList.drop 143 = dktX0_findBest_6 := dk_seg dksX0_findBest_5 24 rfl rfl
theorem dksX0_findBest_7 : cX0_findBest.data.toList.drop 165 = dktX0_findBest_7 := dk_seg dksX0_findBest_6 22 rfl rfl
theorem dksX0_findBest_8 : cX0_findBest.data.toList.drop 187 = dktX0_findBest_8 := dk_seg dksX0_findBest_7 22 rfl rfl
theorem dksX0_findBest_9 : cX0_findBest.data.toList.drop 209 = dktX0_findBest_9 := dk_seg dksX0_findBest_8 22 rfl rfl
theorem dksX0_findBest_10 : cX0_findBest.data.toList.drop 231 = dktX0_findBest_10 := dk_seg dksX0_findBest_9 22 rfl rfl
theorem dksX0_findBest_11 : cX0_findBest.data.toList.drop 254 = dktX0_findBest_11 := dk_seg dksX0_findBest_10 23 rfl rfl
theorem dksX0_findBest_12 : cX0_findBest.data.toList.drop 277 = dktX0_findBest_12 := dk_seg dksX0_findBest_11 23 rfl rfl
theorem dksX0_findBest_13 : cX0_findBest.data.toList.drop 300 = dktX0_findBest_13 := dk_seg dksX0_findBest_12 23 rfl rfl
theorem dX0_findBest_0 : decode cX0_findBest 0 = .ok (.iconst 1, 1) := dk_4 (dk_at dksX0_findBest_0 0 rfl rfl)
theorem dX0_findBest_1 : decode cX0_findBest 1 = .ok (.aload_n 0, 1) := dk_42 (dk_at dksX0_findBest_0 1 rfl rfl)
theorem dX0_findBest_2 : decode cX0_findBest 2 = .ok (.invokevirtual 166, 3) := dk_182 0 166 (dk_at dksX0_findBest_0 2 rfl rfl)
theorem dX0_findBest_5 : decode cX0_findBest 5 = .ok (.ishl, 1) := dk_120 (dk_at dksX0_findBest_0 5 rfl rfl)
theorem dX0_findBest_6 : decode cX0_findBest 6 = .ok (.istore_n 1, 1) := dk_60 (dk_at dksX0_findBest_0 6 rfl rfl)
theorem dX0_findBest_7 : decode cX0_findBest 7 = .ok (.iconst 0, 1) := dk_3 (dk_at dksX0_findBest_0 7 rfl rfl)
theorem dX0_findBest_8 : decode cX0_findBest 8 = .ok (.istore_n 2, 1) := dk_61 (dk_at dksX0_findBest_0 8 rfl rfl)
theorem dX0_findBest_9 : decode cX0_findBest 9 = .ok (.iload_n 2, 1) := dk_28 (dk_at dksX0_findBest_0 9 rfl rfl)
theorem dX0_findBest_10 : decode cX0_findBest 10 = .ok (.iload_n 1, 1) := dk_27 (dk_at dksX0_findBest_0 10 rfl rfl)
theorem dX0_findBest_11 : decode cX0_findBest 11 = .ok (.if_icmp .ge 25, 3) := dk_162 0 25 (dk_at dksX0_findBest_0 11 rfl rfl)
theorem dX0_findBest_14 : decode cX0_findBest 14 = .ok (.aload_n 0, 1) := dk_42 (dk_at dksX0_findBest_0 14 rfl rfl)
theorem dX0_findBest_15 : decode cX0_findBest 15 = .ok (.getfield 53, 3) := dk_180 0 53 (dk_at dksX0_findBest_0 15 rfl rfl)
theorem dX0_findBest_18 : decode cX0_findBest 18 = .ok (.iload_n 2, 1) := dk_28 (dk_at dksX0_findBest_0 18 rfl rfl)
theorem dX0_findBest_19 : decode cX0_findBest 19 = .ok (.iload_n 2, 1) := dk_28 (dk_at dksX0_findBest_0 19 rfl rfl)
theorem dX0_findBest_20 : decode cX0_findBest 20 = .ok (.ifCond .ne 7, 3) := dk_154 0 7 (dk_at dksX0_findBest_0 20 rfl rfl)
theorem dX0_findBest_23 : decode cX0_findBest 23 = .ok (.iconst 0, 1) := dk_3 (dk_at dksX0_findBest_0 23 rfl rfl)
theorem dX0_findBest_24 : decode cX0_findBest 24 = .ok (.goto 5, 3) := dk_167 0 5 (dk_at dksX0_findBest_1 0 rfl rfl)
theorem dX0_findBest_27 : decode cX0_findBest 27 = .ok (.ldc 253, 2) := dk_18 253 (dk_at dksX0_findBest_1 3 rfl rfl)
theorem dX0_findBest_29 : decode cX0_findBest 29 = .ok (.iastore, 1) := dk_79 (dk_at dksX0_findBest_1 5 rfl rfl)
theorem dX0_findBest_30 : decode cX0_findBest 30 = .ok (.iinc 2 1, 3) := dk_132 2 1 (dk_at dksX0_findBest_1 6 rfl rfl)
theorem dX0_findBest_33 : decode cX0_findBest 33 = .ok (.goto (-24), 3) := dk_167 255 232 (dk_at dksX0_findBest_1 9 rfl rfl)
theorem dX0_findBest_36 : decode cX0_findBest 36 = .ok (.iconst 0, 1) := dk_3 (dk_at dksX0_findBest_1 12 rfl rfl)
theorem dX0_findBest_37 : decode cX0_findBest 37 = .ok (.istore_n 2, 1) := dk_61 (dk_at dksX0_findBest_1 13 rfl rfl)
theorem dX0_findBest_38 : decode cX0_findBest 38 = .ok (.iload_n 2, 1) := dk_28 (dk_at dksX0_findBest_1 14 rfl rfl)
theorem dX0_findBest_39 : decode cX0_findBest 39 = .ok (.bipush 8, 2) := dk_16 8 (dk_at dksX0_findBest_1 15 rfl rfl)
theorem dX0_findBest_41 : decode cX0_findBest 41 = .ok (.if_icmp .ge 155, 3) := dk_162 0 155 (dk_at dksX0_findBest_1 17 rfl rfl)
theorem dX0_findBest_44 : decode cX0_findBest 44 = .ok (.aload_n 0, 1) := dk_42 (dk_at dksX0_findBest_1 20 rfl rfl)
theorem dX0_findBest_45 : decode cX0_findBest 45 = .ok (.getfield 53, 3) := dk_180 0 53 (dk_at dksX0_findBest_1 21 rfl rfl)
theorem dX0_findBest_48 : decode cX0_findBest 48 = .ok (.iconst 0, 1) := dk_3 (dk_at dksX0_findBest_2 0 rfl rfl)
theorem dX0_findBest_49 : decode cX0_findBest 49 = .ok (.aload_n 0, 1) := dk_42 (dk_at dksX0_findBest_2 1 rfl rfl)
theorem dX0_findBest_50 : decode cX0_findBest 50 = .ok (.getfield 56, 3) := dk_180 0 56 (dk_at dksX0_findBest_2 2 rfl rfl)
theorem dX0_findBest_53 : decode cX0_findBest 53 = .ok (.iconst 0, 1) := dk_3 (dk_at dksX0_findBest_2 5 rfl rfl)
theorem dX0_findBest_54 : decode cX0_findBest 54 = .ok (.iload_n 1, 1) := dk_27 (dk_at dksX0_findBest_2 6 rfl rfl)
theorem dX0_findBest_55 : decode cX0_findBest 55 = .ok (.invokestatic 258, 3) := dk_184 1 2 (dk_at dksX0_findBest_2 7 rfl rfl)
theorem dX0_findBest_58 : decode cX0_findBest 58 = .ok (.iconst 0, 1) := dk_3 (dk_at dksX0_findBest_2 10 rfl rfl)
theorem dX0_findBest_59 : decode cX0_findBest 59 = .ok (.istore_n 3, 1) := dk_62 (dk_at dksX0_findBest_2 11 rfl rfl)
theorem dX0_findBest_60 : decode cX0_findBest 60 = .ok (.iload_n 3, 1) := dk_29 (dk_at dksX0_findBest_2 12 rfl rfl)
theorem dX0_findBest_61 : decode cX0_findBest 61 = .ok (.iload_n 1, 1) := dk_27 (dk_at dksX0_findBest_2 13 rfl rfl)
theorem dX0_findBest_62 : decode cX0_findBest 62 = .ok (.if_icmp .ge 17, 3) := dk_162 0 17 (dk_at dksX0_findBest_2 14 rfl rfl)
theorem dX0_findBest_65 : decode cX0_findBest 65 = .ok (.aload_n 0, 1) := dk_42 (dk_at dksX0_findBest_2 17 rfl rfl)
theorem dX0_findBest_66 : decode cX0_findBest 66 = .ok (.getfield 53, 3) := dk_180 0 53 (dk_at dksX0_findBest_2 18 rfl rfl)
theorem dX0_findBest_69 : decode cX0_findBest 69 = .ok (.iload_n 3, 1) := dk_29 (dk_at dksX0_findBest_2 21 rfl rfl)
theorem dX0_findBest_70 : decode cX0_findBest 70 = .ok (.ldc 253, 2) := dk_18 253 (dk_at dksX0_findBest_2 22 rfl rfl)
theorem dX0_findBest_72 : decode cX0_findBest 72 = .ok (.iastore, 1) := dk_79 (dk_at dksX0_findBest_3 0 rfl rfl)
theorem dX0_findBest_73 : decode cX0_findBest 73 = .ok (.iinc 3 1, 3) := dk_132 3 1 (dk_at dksX0_findBest_3 1 rfl rfl)
theorem dX0_findBest_76 : decode cX0_findBest 76 = .ok (.goto (-16), 3) := dk_167 255 240 (dk_at dksX0_findBest_3 4 rfl rfl)
theorem dX0_findBest_79 : decode cX0_findBest 79 = .ok (.iconst 0, 1) := dk_3 (dk_at dksX0_findBest_3 7 rfl rfl)
theorem dX0_findBest_80 : decode cX0_findBest 80 = .ok (.istore_n 3, 1) := dk_62 (dk_at dksX0_findBest_3 8 rfl rfl)
theorem dX0_findBest_81 : decode cX0_findBest 81 = .ok (.iload_n 3, 1) := dk_29 (dk_at dksX0_findBest_3 9 rfl rfl)
theorem dX0_findBest_82 : decode cX0_findBest 82 = .ok (.iload_n 1, 1) := dk_27 (dk_at dksX0_findBest_3 10 rfl rfl)
theorem dX0_findBest_83 : decode cX0_findBest 83 = .ok (.if_icmp .ge 107, 3) := dk_162 0 107 (dk_at dksX0_findBest_3 11 rfl rfl)
theorem dX0_findBest_86 : decode cX0_findBest 86 = .ok (.aload_n 0, 1) := dk_42 (dk_at dksX0_findBest_3 14 rfl rfl)
theorem dX0_findBest_87 : decode cX0_findBest 87 = .ok (.getfield 47, 3) := dk_180 0 47 (dk_at dksX0_findBest_3 15 rfl rfl)
theorem dX0_findBest_90 : decode cX0_findBest 90 = .ok (.iload_n 2, 1) := dk_28 (dk_at dksX0_findBest_3 18 rfl rfl)
theorem dX0_findBest_91 : decode cX0_findBest 91 = .ok (.aaload, 1) := dk_50 (dk_at dksX0_findBest_3 19 rfl rfl)
theorem dX0_findBest_92 : decode cX0_findBest 92 = .ok (.iload_n 3, 1) := dk_29 (dk_at dksX0_findBest_3 20 rfl rfl)
theorem dX0_findBest_93 : decode cX0_findBest 93 = .ok (.iaload, 1) := dk_46 (dk_at dksX0_findBest_3 21 rfl rfl)
theorem dX0_findBest_94 : decode cX0_findBest 94 = .ok (.ldc 253, 2) := dk_18 253 (dk_at dksX0_findBest_3 22 rfl rfl)
theorem dX0_findBest_96 : decode cX0_findBest 96 = .ok (.if_icmp .ge 88, 3) := dk_162 0 88 (dk_at dksX0_findBest_4 0 rfl rfl)
theorem dX0_findBest_99 : decode cX0_findBest 99 = .ok (.aload_n 0, 1) := dk_42 (dk_at dksX0_findBest_4 3 rfl rfl)
theorem dX0_findBest_100 : decode cX0_findBest 100 = .ok (.iload_n 3, 1) := dk_29 (dk_at dksX0_findBest_4 4 rfl rfl)
theorem dX0_findBest_101 : decode cX0_findBest 101 = .ok (.iload_n 2, 1) := dk_28 (dk_at dksX0_findBest_4 5 rfl rfl)
theorem dX0_findBest_102 : decode cX0_findBest 102 = .ok (.invokevirtual 264, 3) := dk_182 1 8 (dk_at dksX0_findBest_4 6 rfl rfl)
theorem dX0_findBest_105 : decode cX0_findBest 105 = .ok (.ifCond .eq 79, 3) := dk_153 0 79 (dk_at dksX0_findBest_4 9 rfl rfl)
theorem dX0_findBest_108 : decode cX0_findBest 108 = .ok (.iload_n 1, 1) := dk_27 (dk_at dksX0_findBest_4 12 rfl rfl)
theorem dX0_findBest_109 : decode cX0_findBest 109 = .ok (.iconst 1, 1) := dk_4 (dk_at dksX0_findBest_4 13 rfl rfl)
theorem dX0_findBest_110 : decode cX0_findBest 110 = .ok (.isub, 1) := dk_100 (dk_at dksX0_findBest_4 14 rfl rfl)
theorem dX0_findBest_111 : decode cX0_findBest 111 = .ok (.iload_n 3, 1) := dk_29 (dk_at dksX0_findBest_4 15 rfl rfl)
theorem dX0_findBest_112 : decode cX0_findBest 112 = .ok (.iconst (-1), 1) := dk_2 (dk_at dksX0_findBest_4 16 rfl rfl)
theorem dX0_findBest_113 : decode cX0_findBest 113 = .ok (.ixor, 1) := dk_130 (dk_at dksX0_findBest_4 17 rfl rfl)
theorem dX0_findBest_114 : decode cX0_findBest 114 = .ok (.iand, 1) := dk_126 (dk_at dksX0_findBest_4 18 rfl rfl)
theorem dX0_findBest_115 : decode cX0_findBest 115 = .ok (.istore 4, 2) := dk_54 4 (dk_at dksX0_findBest_4 19 rfl rfl)
theorem dX0_findBest_117 : decode cX0_findBest 117 = .ok (.iload 4, 2) := dk_21 4 (dk_at dksX0_findBest_4 21 rfl rfl)
theorem dX0_findBest_119 : decode cX0_findBest 119 = .ok (.istore 5, 2) := dk_54 5 (dk_at dksX0_findBest_5 0 rfl rfl)
theorem dX0_findBest_121 : decode cX0_findBest 121 = .ok (.iload 5, 2) := dk_21 5 (dk_at dksX0_findBest_5 2 rfl rfl)
theorem dX0_findBest_123 : decode cX0_findBest 123 = .ok (.ifCond .lt 61, 3) := dk_155 0 61 (dk_at dksX0_findBest_5 4 rfl rfl)
theorem dX0_findBest_126 : decode cX0_findBest 126 = .ok (.aload_n 0, 1) := dk_42 (dk_at dksX0_findBest_5 7 rfl rfl)
theorem dX0_findBest_127 : decode cX0_findBest 127 = .ok (.getfield 53, 3) := dk_180 0 53 (dk_at dksX0_findBest_5 8 rfl rfl)
theorem dX0_findBest_130 : decode cX0_findBest 130 = .ok (.iload 5, 2) := dk_21 5 (dk_at dksX0_findBest_5 11 rfl rfl)
theorem dX0_findBest_132 : decode cX0_findBest 132 = .ok (.iload_n 3, 1) := dk_29 (dk_at dksX0_findBest_5 13 rfl rfl)
theorem dX0_findBest_133 : decode cX0_findBest 133 = .ok (.ior, 1) := dk_128 (dk_at dksX0_findBest_5 14 rfl rfl)
theorem dX0_findBest_134 : decode cX0_findBest 134 = .ok (.aload_n 0, 1) := dk_42 (dk_at dksX0_findBest_5 15 rfl rfl)
theorem dX0_findBest_135 : decode cX0_findBest 135 = .ok (.getfield 53, 3) := dk_180 0 53 (dk_at dksX0_findBest_5 16 rfl rfl)
theorem dX0_findBest_138 : decode cX0_findBest 138 = .ok (.iload 5, 2) := dk_21 5 (dk_at dksX0_findBest_5 19 rfl rfl)
theorem dX0_findBest_140 : decode cX0_findBest 140 = .ok (.iload_n 3, 1) := dk_29 (dk_at dksX0_findBest_5 21 rfl rfl)
theorem dX0_findBest_141 : decode cX0_findBest 141 = .ok (.ior, 1) := dk_128 (dk_at dksX0_findBest_5 22 rfl rfl)
theorem dX0_findBest_142 : decode cX0_findBest 142 = .ok (.iaload, 1) := dk_46 (dk_at dksX0_findBest_5 23 rfl rfl)
theorem dX0_findBest_143 : decode cX0_findBest 143 = .ok (.aload_n 0, 1) := dk_42 (dk_at dksX0_findBest_6 0 rfl rfl)
theorem dX0_findBest_144 : decode cX0_findBest 144 = .ok (.getfield 56, 3) := dk_180 0 56 (dk_at dksX0_findBest_6 1 rfl rfl)
theorem dX0_findBest_147 : decode cX0_findBest 147 = .ok (.iload 5, 2) := dk_21 5 (dk_at dksX0_findBest_6 4 rfl rfl)
theorem dX0_findBest_149 : decode cX0_findBest 149 = .ok (.iaload, 1) := dk_46 (dk_at dksX0_findBest_6 6 rfl rfl)
theorem dX0_findBest_150 : decode cX0_findBest 150 = .ok (.aload_n 0, 1) := dk_42 (dk_at dksX0_findBest_6 7 rfl rfl)
theorem dX0_findBest_151 : decode cX0_findBest 151 = .ok (.getfield 47, 3) := dk_180 0 47 (dk_at dksX0_findBest_6 8 rfl rfl)
theorem dX0_findBest_154 : decode cX0_findBest 154 = .ok (.iload_n 2, 1) := dk_28 (dk_at dksX0_findBest_6 11 rfl rfl)
theorem dX0_findBest_155 : decode cX0_findBest 155 = .ok (.aaload, 1) := dk_50 (dk_at dksX0_findBest_6 12 rfl rfl)
theorem dX0_findBest_156 : decode cX0_findBest 156 = .ok (.iload_n 3, 1) := dk_29 (dk_at dksX0_findBest_6 13 rfl rfl)
theorem dX0_findBest_157 : decode cX0_findBest 157 = .ok (.iaload, 1) := dk_46 (dk_at dksX0_findBest_6 14 rfl rfl)
theorem dX0_findBest_158 : decode cX0_findBest 158 = .ok (.iadd, 1) := dk_96 (dk_at dksX0_findBest_6 15 rfl rfl)
theorem dX0_findBest_159 : decode cX0_findBest 159 = .ok (.invokestatic 214, 3) := dk_184 0 214 (dk_at dksX0_findBest_6 16 rfl rfl)
theorem dX0_findBest_162 : decode cX0_findBest 162 = .ok (.iastore, 1) := dk_79 (dk_at dksX0_findBest_6 19 rfl rfl)
theorem dX0_findBest_163 : decode cX0_findBest 163 = .ok (.iload 5, 2) := dk_21 5 (dk_at dksX0_findBest_6 20 rfl rfl)
theorem dX0_findBest_165 : decode cX0_findBest 165 = .ok (.ifCond .ne 7, 3) := dk_154 0 7 (dk_at dksX0_findBest_7 0 rfl rfl)
theorem dX0_findBest_168 : decode cX0_findBest 168 = .ok (.iconst (-1), 1) := dk_2 (dk_at dksX0_findBest_7 3 rfl rfl)
theorem dX0_findBest_169 : decode cX0_findBest 169 = .ok (.goto 10, 3) := dk_167 0 10 (dk_at dksX0_findBest_7 4 rfl rfl)
theorem dX0_findBest_172 : decode cX0_findBest 172 = .ok (.iload 5, 2) := dk_21 5 (dk_at dksX0_findBest_7 7 rfl rfl)
theorem dX0_findBest_174 : decode cX0_findBest 174 = .ok (.iconst 1, 1) := dk_4 (dk_at dksX0_findBest_7 9 rfl rfl)
theorem dX0_findBest_175 : decode cX0_findBest 175 = .ok (.isub, 1) := dk_100 (dk_at dksX0_findBest_7 10 rfl rfl)
theorem dX0_findBest_176 : decode cX0_findBest 176 = .ok (.iload 4, 2) := dk_21 4 (dk_at dksX0_findBest_7 11 rfl rfl)
theorem dX0_findBest_178 : decode cX0_findBest 178 = .ok (.iand, 1) := dk_126 (dk_at dksX0_findBest_7 13 rfl rfl)
theorem dX0_findBest_179 : decode cX0_findBest 179 = .ok (.istore 5, 2) := dk_54 5 (dk_at dksX0_findBest_7 14 rfl rfl)
theorem dX0_findBest_181 : decode cX0_findBest 181 = .ok (.goto (-60), 3) := dk_167 255 196 (dk_at dksX0_findBest_7 16 rfl rfl)
theorem dX0_findBest_184 : decode cX0_findBest 184 = .ok (.iinc 3 1, 3) := dk_132 3 1 (dk_at dksX0_findBest_7 19 rfl rfl)
theorem dX0_findBest_187 : decode cX0_findBest 187 = .ok (.goto (-106), 3) := dk_167 255 150 (dk_at dksX0_findBest_8 0 rfl rfl)
theorem dX0_findBest_190 : decode cX0_findBest 190 = .ok (.iinc 2 1, 3) := dk_132 2 1 (dk_at dksX0_findBest_8 3 rfl rfl)
theorem dX0_findBest_193 : decode cX0_findBest 193 = .ok (.goto (-155), 3) := dk_167 255 101 (dk_at dksX0_findBest_8 6 rfl rfl)
theorem dX0_findBest_196 : decode cX0_findBest 196 = .ok (.aload_n 0, 1) := dk_42 (dk_at dksX0_findBest_8 9 rfl rfl)
theorem dX0_findBest_197 : decode cX0_findBest 197 = .ok (.iconst (-1), 1) := dk_2 (dk_at dksX0_findBest_8 10 rfl rfl)
theorem dX0_findBest_198 : decode cX0_findBest 198 = .ok (.putfield 267, 3) := dk_181 1 11 (dk_at dksX0_findBest_8 11 rfl rfl)
theorem dX0_findBest_201 : decode cX0_findBest 201 = .ok (.iconst 0, 1) := dk_3 (dk_at dksX0_findBest_8 14 rfl rfl)
theorem dX0_findBest_202 : decode cX0_findBest 202 = .ok (.istore_n 2, 1) := dk_61 (dk_at dksX0_findBest_8 15 rfl rfl)
theorem dX0_findBest_203 : decode cX0_findBest 203 = .ok (.iload_n 2, 1) := dk_28 (dk_at dksX0_findBest_8 16 rfl rfl)
theorem dX0_findBest_204 : decode cX0_findBest 204 = .ok (.iload_n 1, 1) := dk_27 (dk_at dksX0_findBest_8 17 rfl rfl)
theorem dX0_findBest_205 : decode cX0_findBest 205 = .ok (.if_icmp .ge 104, 3) := dk_162 0 104 (dk_at dksX0_findBest_8 18 rfl rfl)
theorem dX0_findBest_208 : decode cX0_findBest 208 = .ok (.aload_n 0, 1) := dk_42 (dk_at dksX0_findBest_8 21 rfl rfl)
theorem dX0_findBest_209 : decode cX0_findBest 209 = .ok (.getfield 53, 3) := dk_180 0 53 (dk_at dksX0_findBest_9 0 rfl rfl)
theorem dX0_findBest_212 : decode cX0_findBest 212 = .ok (.iload_n 2, 1) := dk_28 (dk_at dksX0_findBest_9 3 rfl rfl)
theorem dX0_findBest_213 : decode cX0_findBest 213 = .ok (.iaload, 1) := dk_46 (dk_at dksX0_findBest_9 4 rfl rfl)
theorem dX0_findBest_214 : decode cX0_findBest 214 = .ok (.ldc 253, 2) := dk_18 253 (dk_at dksX0_findBest_9 5 rfl rfl)
theorem dX0_findBest_216 : decode cX0_findBest 216 = .ok (.if_icmp .ge 22, 3) := dk_162 0 22 (dk_at dksX0_findBest_9 7 rfl rfl)
theorem dX0_findBest_219 : decode cX0_findBest 219 = .ok (.aload_n 0, 1) := dk_42 (dk_at dksX0_findBest_9 10 rfl rfl)
theorem dX0_findBest_220 : decode cX0_findBest 220 = .ok (.getfield 53, 3) := dk_180 0 53 (dk_at dksX0_findBest_9 11 rfl rfl)
theorem dX0_findBest_223 : decode cX0_findBest 223 = .ok (.iload_n 2, 1) := dk_28 (dk_at dksX0_findBest_9 14 rfl rfl)
theorem dX0_findBest_224 : decode cX0_findBest 224 = .ok (.iaload, 1) := dk_46 (dk_at dksX0_findBest_9 15 rfl rfl)
theorem dX0_findBest_225 : decode cX0_findBest 225 = .ok (.aload_n 0, 1) := dk_42 (dk_at dksX0_findBest_9 16 rfl rfl)
theorem dX0_findBest_226 : decode cX0_findBest 226 = .ok (.getfield 24, 3) := dk_180 0 24 (dk_at dksX0_findBest_9 17 rfl rfl)
theorem dX0_findBest_229 : decode cX0_findBest 229 = .ok (.iconst 2, 1) := dk_5 (dk_at dksX0_findBest_9 20 rfl rfl)
theorem dX0_findBest_230 : decode cX0_findBest 230 = .ok (.iaload, 1) := dk_46 (dk_at dksX0_findBest_9 21 rfl rfl)
theorem dX0_findBest_231 : decode cX0_findBest 231 = .ok (.if_icmp .gt 7, 3) := dk_163 0 7 (dk_at dksX0_findBest_10 0 rfl rfl)
theorem dX0_findBest_234 : decode cX0_findBest 234 = .ok (.iconst 1, 1) := dk_4 (dk_at dksX0_findBest_10 3 rfl rfl)
theorem dX0_findBest_235 : decode cX0_findBest 235 = .ok (.goto 4, 3) := dk_167 0 4 (dk_at dksX0_findBest_10 4 rfl rfl)
theorem dX0_findBest_238 : decode cX0_findBest 238 = .ok (.iconst 0, 1) := dk_3 (dk_at dksX0_findBest_10 7 rfl rfl)
theorem dX0_findBest_239 : decode cX0_findBest 239 = .ok (.istore_n 3, 1) := dk_62 (dk_at dksX0_findBest_10 8 rfl rfl)
theorem dX0_findBest_240 : decode cX0_findBest 240 = .ok (.iload_n 3, 1) := dk_29 (dk_at dksX0_findBest_10 9 rfl rfl)
theorem dX0_findBest_241 : decode cX0_findBest 241 = .ok (.ifCond .eq 62, 3) := dk_153 0 62 (dk_at dksX0_findBest_10 10 rfl rfl)
theorem dX0_findBest_244 : decode cX0_findBest 244 = .ok (.aload_n 0, 1) := dk_42 (dk_at dksX0_findBest_10 13 rfl rfl)
theorem dX0_findBest_245 : decode cX0_findBest 245 = .ok (.getfield 50, 3) := dk_180 0 50 (dk_at dksX0_findBest_10 14 rfl rfl)
theorem dX0_findBest_248 : decode cX0_findBest 248 = .ok (.iload_n 2, 1) := dk_28 (dk_at dksX0_findBest_10 17 rfl rfl)
theorem dX0_findBest_249 : decode cX0_findBest 249 = .ok (.iaload, 1) := dk_46 (dk_at dksX0_findBest_10 18 rfl rfl)
theorem dX0_findBest_250 : decode cX0_findBest 250 = .ok (.aload_n 0, 1) := dk_42 (dk_at dksX0_findBest_10 19 rfl rfl)
theorem dX0_findBest_251 : decode cX0_findBest 251 = .ok (.getfield 267, 3) := dk_180 1 11 (dk_at dksX0_findBest_10 20 rfl rfl)
theorem dX0_findBest_254 : decode cX0_findBest 254 = .ok (.if_icmp .gt 29, 3) := dk_163 0 29 (dk_at dksX0_findBest_11 0 rfl rfl)
theorem dX0_findBest_257 : decode cX0_findBest 257 = .ok (.aload_n 0, 1) := dk_42 (dk_at dksX0_findBest_11 3 rfl rfl)
theorem dX0_findBest_258 : decode cX0_findBest 258 = .ok (.getfield 50, 3) := dk_180 0 50 (dk_at dksX0_findBest_11 4 rfl rfl)
theorem dX0_findBest_261 : decode cX0_findBest 261 = .ok (.iload_n 2, 1) := dk_28 (dk_at dksX0_findBest_11 7 rfl rfl)
theorem dX0_findBest_262 : decode cX0_findBest 262 = .ok (.iaload, 1) := dk_46 (dk_at dksX0_findBest_11 8 rfl rfl)
theorem dX0_findBest_263 : decode cX0_findBest 263 = .ok (.aload_n 0, 1) := dk_42 (dk_at dksX0_findBest_11 9 rfl rfl)
theorem dX0_findBest_264 : decode cX0_findBest 264 = .ok (.getfield 267, 3) := dk_180 1 11 (dk_at dksX0_findBest_11 10 rfl rfl)
theorem dX0_findBest_267 : decode cX0_findBest 267 = .ok (.if_icmp .ne 36, 3) := dk_160 0 36 (dk_at dksX0_findBest_11 13 rfl rfl)
theorem dX0_findBest_270 : decode cX0_findBest 270 = .ok (.aload_n 0, 1) := dk_42 (dk_at dksX0_findBest_11 16 rfl rfl)
theorem dX0_findBest_271 : decode cX0_findBest 271 = .ok (.getfield 53, 3) := dk_180 0 53 (dk_at dksX0_findBest_11 17 rfl rfl)
theorem dX0_findBest_274 : decode cX0_findBest 274 = .ok (.iload_n 2, 1) := dk_28 (dk_at dksX0_findBest_11 20 rfl rfl)
theorem dX0_findBest_275 : decode cX0_findBest 275 = .ok (.iaload, 1) := dk_46 (dk_at dksX0_findBest_11 21 rfl rfl)
theorem dX0_findBest_276 : decode cX0_findBest 276 = .ok (.aload_n 0, 1) := dk_42 (dk_at dksX0_findBest_11 22 rfl rfl)
theorem dX0_findBest_277 : decode cX0_findBest 277 = .ok (.getfield 270, 3) := dk_180 1 14 (dk_at dksX0_findBest_12 0 rfl rfl)
theorem dX0_findBest_280 : decode cX0_findBest 280 = .ok (.if_icmp .ge 23, 3) := dk_162 0 23 (dk_at dksX0_findBest_12 3 rfl rfl)
theorem dX0_findBest_283 : decode cX0_findBest 283 = .ok (.aload_n 0, 1) := dk_42 (dk_at dksX0_findBest_12 6 rfl rfl)
theorem dX0_findBest_284 : decode cX0_findBest 284 = .ok (.aload_n 0, 1) := dk_42 (dk_at dksX0_findBest_12 7 rfl rfl)
theorem dX0_findBest_285 : decode cX0_findBest 285 = .ok (.getfield 50, 3) := dk_180 0 50 (dk_at dksX0_findBest_12 8 rfl rfl)
theorem dX0_findBest_288 : decode cX0_findBest 288 = .ok (.iload_n 2, 1) := dk_28 (dk_at dksX0_findBest_12 11 rfl rfl)
theorem dX0_findBest_289 : decode cX0_findBest 289 = .ok (.iaload, 1) := dk_46 (dk_at dksX0_findBest_12 12 rfl rfl)
theorem dX0_findBest_290 : decode cX0_findBest 290 = .ok (.putfield 267, 3) := dk_181 1 11 (dk_at dksX0_findBest_12 13 rfl rfl)
theorem dX0_findBest_293 : decode cX0_findBest 293 = .ok (.aload_n 0, 1) := dk_42 (dk_at dksX0_findBest_12 16 rfl rfl)
theorem dX0_findBest_294 : decode cX0_findBest 294 = .ok (.aload_n 0, 1) := dk_42 (dk_at dksX0_findBest_12 17 rfl rfl)
theorem dX0_findBest_295 : decode cX0_findBest 295 = .ok (.getfield 53, 3) := dk_180 0 53 (dk_at dksX0_findBest_12 18 rfl rfl)
theorem dX0_findBest_298 : decode cX0_findBest 298 = .ok (.iload_n 2, 1) := dk_28 (dk_at dksX0_findBest_12 21 rfl rfl)
theorem dX0_findBest_299 : decode cX0_findBest 299 = .ok (.iaload, 1) := dk_46 (dk_at dksX0_findBest_12 22 rfl rfl)
theorem dX0_findBest_300 : decode cX0_findBest 300 = .ok (.putfield 270, 3) := dk_181 1 14 (dk_at dksX0_findBest_13 0 rfl rfl)
theorem dX0_findBest_303 : decode cX0_findBest 303 = .ok (.iinc 2 1, 3) := dk_132 2 1 (dk_at dksX0_findBest_13 3 rfl rfl)
theorem dX0_findBest_306 : decode cX0_findBest 306 = .ok (.goto (-103), 3) := dk_167 255 153 (dk_at dksX0_findBest_13 6 rfl rfl)
theorem dX0_findBest_309 : decode cX0_findBest 309 = .ok (.return_, 1) := dk_177 (dk_at dksX0_findBest_13 9 rfl rfl)
abbrev cX0_isFixed : ByteArray := prog_1_method_41_code
def yX0_isFixed : MethodName := ⟨RX0, "isFixed", "(II)Z"⟩
def dkwX0_isFixed_2 : List UInt8 := [3, 160, 0, 7, 4, 167, 0, 4, 3, 126, 62, 132, 4, 1, 167, 255, 199, 29, 172]
abbrev dktX0_isFixed_2 : List UInt8 := dkwX0_isFixed_2 ++ []
def dkwX0_isFixed_1 : List UInt8 := [159, 0, 28, 27, 21, 4, 184, 0, 223, 42, 180, 0, 59, 21, 4, 46, 28, 160, 0, 7, 4, 167, 0, 4]
abbrev dktX0_isFixed_1 : List UInt8 := dkwX0_isFixed_1 ++ dktX0_isFixed_2
def dkwX0_isFixed_0 : List UInt8 := [4, 62, 3, 54, 4, 21, 4, 42, 182, 0, 166, 162, 0, 54, 29, 42, 180, 0, 59, 21, 4, 46, 16, 254]
abbrev dktX0_isFixed_0 : List UInt8 := dkwX0_isFixed_0 ++ dktX0_isFixed_1
theorem dksX0_isFixed_0 : cX0_isFixed.data.toList.drop 0 = dktX0_isFixed_0 := by decide +kernel
theorem dksX0_isFixed_1 : cX0_isFixed.data.toList.drop 24 = dktX0_isFixed_1 := dk_seg dksX0_isFixed_0 24 rfl rfl
theorem dksX0_isFixed_2 : cX0_isFixed.data.toList.drop 48 = dktX0_isFixed_2 := dk_seg dksX0_isFixed_1 24 rfl rfl
theorem dX0_isFixed_0 : decode cX0_isFixed 0 = .ok (.iconst 1, 1) := dk_4 (dk_at dksX0_isFixed_0 0 rfl rfl)
theorem dX0_isFixed_1 : decode cX0_isFixed 1 = .ok (.istore_n 3, 1) := dk_62 (dk_at dksX0_isFixed_0 1 rfl rfl)
theorem dX0_isFixed_2 : decode cX0_isFixed 2 = .ok (.iconst 0, 1) := dk_3 (dk_at dksX0_isFixed_0 2 rfl rfl)
theorem dX0_isFixed_3 : decode cX0_isFixed 3 = .ok (.istore 4, 2) := dk_54 4 (dk_at dksX0_isFixed_0 3 rfl rfl)
theorem dX0_isFixed_5 : decode cX0_isFixed 5 = .ok (.iload 4, 2) := dk_21 4 (dk_at dksX0_isFixed_0 5 rfl rfl)
theorem dX0_isFixed_7 : decode cX0_isFixed 7 = .ok (.aload_n 0, 1) := dk_42 (dk_at dksX0_isFixed_0 7 rfl rfl)
theorem dX0_isFixed_8 : decode cX0_isFixed 8 = .ok (.invokevirtual 166, 3) := dk_182 0 166 (dk_at dksX0_isFixed_0 8 rfl rfl)
theorem dX0_isFixed_11 : decode cX0_isFixed 11 = .ok (.if_icmp .ge 54, 3) := dk_162 0 54 (dk_at dksX0_isFixed_0 11 rfl rfl)
theorem dX0_isFixed_14 : decode cX0_isFixed 14 = .ok (.iload_n 3, 1) := dk_29 (dk_at dksX0_isFixed_0 14 rfl rfl)
theorem dX0_isFixed_15 : decode cX0_isFixed 15 = .ok (.aload_n 0, 1) := dk_42 (dk_at dksX0_isFixed_0 15 rfl rfl)
theorem dX0_isFixed_16 : decode cX0_isFixed 16 = .ok (.getfield 59, 3) := dk_180 0 59 (dk_at dksX0_isFixed_0 16 rfl rfl)
theorem dX0_isFixed_19 : decode cX0_isFixed 19 = .ok (.iload 4, 2) := dk_21 4 (dk_at dksX0_isFixed_0 19 rfl rfl)
theorem dX0_isFixed_21 : decode cX0_isFixed 21 = .ok (.iaload, 1) := dk_46 (dk_at dksX0_isFixed_0 21 rfl rfl)
theorem dX0_isFixed_22 : decode cX0_isFixed 22 = .ok (.bipush (-2), 2) := dk_16 254 (dk_at dksX0_isFixed_0 22 rfl rfl)
theorem dX0_isFixed_24 : decode cX0_isFixed 24 = .ok (.if_icmp .eq 28, 3) := dk_159 0 28 (dk_at dksX0_isFixed_1 0 rfl rfl)
theorem dX0_isFixed_27 : decode cX0_isFixed 27 = .ok (.iload_n 1, 1) := dk_27 (dk_at dksX0_isFixed_1 3 rfl rfl)
theorem dX0_isFixed_28 : decode cX0_isFixed 28 = .ok (.iload 4, 2) := dk_21 4 (dk_at dksX0_isFixed_1 4 rfl rfl)
theorem dX0_isFixed_30 : decode cX0_isFixed 30 = .ok (.invokestatic 223, 3) := dk_184 0 223 (dk_at dksX0_isFixed_1 6 rfl rfl)
theorem dX0_isFixed_33 : decode cX0_isFixed 33 = .ok (.aload_n 0, 1) := dk_42 (dk_at dksX0_isFixed_1 9 rfl rfl)
theorem dX0_isFixed_34 : decode cX0_isFixed 34 = .ok (.getfield 59, 3) := dk_180 0 59 (dk_at dksX0_isFixed_1 10 rfl rfl)
theorem dX0_isFixed_37 : decode cX0_isFixed 37 = .ok (.iload 4, 2) := dk_21 4 (dk_at dksX0_isFixed_1 13 rfl rfl)
theorem dX0_isFixed_39 : decode cX0_isFixed 39 = .ok (.iaload, 1) := dk_46 (dk_at dksX0_isFixed_1 15 rfl rfl)
theorem dX0_isFixed_40 : decode cX0_isFixed 40 = .ok (.iload_n 2, 1) := dk_28 (dk_at dksX0_isFixed_1 16 rfl rfl)
theorem dX0_isFixed_41 : decode cX0_isFixed 41 = .ok (.if_icmp .ne 7, 3) := dk_160 0 7 (dk_at dksX0_isFixed_1 17 rfl rfl)
theorem dX0_isFixed_44 : decode cX0_isFixed 44 = .ok (.iconst 1, 1) := dk_4 (dk_at dksX0_isFixed_1 20 rfl rfl)
theorem dX0_isFixed_45 : decode cX0_isFixed 45 = .ok (.goto 4, 3) := dk_167 0 4 (dk_at dksX0_isFixed_1 21 rfl rfl)
theorem dX0_isFixed_48 : decode cX0_isFixed 48 = .ok (.iconst 0, 1) := dk_3 (dk_at dksX0_isFixed_2 0 rfl rfl)
theorem dX0_isFixed_49 : decode cX0_isFixed 49 = .ok (.if_icmp .ne 7, 3) := dk_160 0 7 (dk_at dksX0_isFixed_2 1 rfl rfl)
theorem dX0_isFixed_52 : decode cX0_isFixed 52 = .ok (.iconst 1, 1) := dk_4 (dk_at dksX0_isFixed_2 4 rfl rfl)
theorem dX0_isFixed_53 : decode cX0_isFixed 53 = .ok (.goto 4, 3) := dk_167 0 4 (dk_at dksX0_isFixed_2 5 rfl rfl)
theorem dX0_isFixed_56 : decode cX0_isFixed 56 = .ok (.iconst 0, 1) := dk_3 (dk_at dksX0_isFixed_2 8 rfl rfl)
theorem dX0_isFixed_57 : decode cX0_isFixed 57 = .ok (.iand, 1) := dk_126 (dk_at dksX0_isFixed_2 9 rfl rfl)
theorem dX0_isFixed_58 : decode cX0_isFixed 58 = .ok (.istore_n 3, 1) := dk_62 (dk_at dksX0_isFixed_2 10 rfl rfl)
theorem dX0_isFixed_59 : decode cX0_isFixed 59 = .ok (.iinc 4 1, 3) := dk_132 4 1 (dk_at dksX0_isFixed_2 11 rfl rfl)
theorem dX0_isFixed_62 : decode cX0_isFixed 62 = .ok (.goto (-57), 3) := dk_167 255 199 (dk_at dksX0_isFixed_2 14 rfl rfl)
theorem dX0_isFixed_65 : decode cX0_isFixed 65 = .ok (.iload_n 3, 1) := dk_29 (dk_at dksX0_isFixed_2 17 rfl rfl)
theorem dX0_isFixed_66 : decode cX0_isFixed 66 = .ok (.ireturn, 1) := dk_172 (dk_at dksX0_isFixed_2 18 rfl rfl)
abbrev cX0_when : ByteArray := prog_1_method_46_code
def yX0_when : MethodName := ⟨RX0, "when", "(I)I"⟩
def dkwX0_when_0 : List UInt8 := [42, 27, 182, 0, 186, 153, 0, 15, 42, 182, 1, 33, 180, 0, 62, 27, 46, 167, 0, 5, 16, 254, 172]
abbrev dktX0_when_0 : List UInt8 := dkwX0_when_0 ++ []
theorem dksX0_when_0 : cX0_when.data.toList.drop 0 = dktX0_when_0 := by decide +kernel
theorem dX0_when_0 : decode cX0_when 0 = .ok (.aload_n 0, 1) := dk_42 (dk_at dksX0_when_0 0 rfl rfl)
theorem dX0_when_1 : decode cX0_when 1 = .ok (.iload_n 1, 1) := dk_27 (dk_at dksX0_when_0 1 rfl rfl)
theorem dX0_when_2 : decode cX0_when 2 = .ok (.invokevirtual 186, 3) := dk_182 0 186 (dk_at dksX0_when_0 2 rfl rfl)
theorem dX0_when_5 : decode cX0_when 5 = .ok (.ifCond .eq 15, 3) := dk_153 0 15 (dk_at dksX0_when_0 5 rfl rfl)
theorem dX0_when_8 : decode cX0_when 8 = .ok (.aload_n 0, 1) := dk_42 (dk_at dksX0_when_0 8 rfl rfl)
theorem dX0_when_9 : decode cX0_when 9 = .ok (.invokevirtual 289, 3) := dk_182 1 33 (dk_at dksX0_when_0 9 rfl rfl)
theorem dX0_when_12 : decode cX0_when 12 = .ok (.getfield 62, 3) := dk_180 0 62 (dk_at dksX0_when_0 12 rfl rfl)
theorem dX0_when_15 : decode cX0_when 15 = .ok (.iload_n 1, 1) := dk_27 (dk_at dksX0_when_0 15 rfl rfl)
theorem dX0_when_16 : decode cX0_when 16 = .ok (.iaload, 1) := dk_46 (dk_at dksX0_when_0 16 rfl rfl)
theorem dX0_when_17 : decode cX0_when 17 = .ok (.goto 5, 3) := dk_167 0 5 (dk_at dksX0_when_0 17 rfl rfl)
theorem dX0_when_20 : decode cX0_when 20 = .ok (.bipush (-2), 2) := dk_16 254 (dk_at dksX0_when_0 20 rfl rfl)
theorem dX0_when_22 : decode cX0_when 22 = .ok (.ireturn, 1) := dk_172 (dk_at dksX0_when_0 22 rfl rfl)
abbrev cX0_plan : ByteArray := prog_1_method_49_code
def yX0_plan : MethodName := ⟨RX0, "plan", "(II)I"⟩
def dkwX0_plan_4 : List UInt8 := [21, 4, 167, 0, 8, 42, 45, 182, 1, 43, 172]
abbrev dktX0_plan_4 : List UInt8 := dkwX0_plan_4 ++ []
def dkwX0_plan_3 : List UInt8 := [160, 0, 7, 3, 167, 0, 29, 4, 167, 0, 25, 21, 4, 16, 253, 159, 0, 8, 28, 5, 160, 0, 8]
abbrev dktX0_plan_3 : List UInt8 := dkwX0_plan_3 ++ dktX0_plan_4
def dkwX0_plan_2 : List UInt8 := [182, 0, 166, 162, 0, 6, 16, 253, 172, 42, 45, 182, 1, 39, 54, 4, 28, 154, 0, 18, 21, 4, 16, 253]
abbrev dktX0_plan_2 : List UInt8 := dkwX0_plan_2 ++ dktX0_plan_3
def dkwX0_plan_1 : List UInt8 := [180, 0, 78, 27, 50, 78, 45, 180, 0, 119, 199, 0, 9, 42, 4, 182, 0, 122, 172, 45, 182, 0, 126, 42]
abbrev dktX0_plan_1 : List UInt8 := dkwX0_plan_1 ++ dktX0_plan_2
def dkwX0_plan_0 : List UInt8 := [27, 184, 0, 116, 153, 0, 15, 28, 133, 9, 20, 0, 202, 184, 0, 89, 154, 0, 6, 16, 254, 172, 42]
abbrev dktX0_plan_0 : List UInt8 := dkwX0_plan_0 ++ dktX0_plan_1
theorem dksX0_plan_0 : cX0_plan.data.toList.drop 0 = dktX0_plan_0 := by decide +kernel
theorem dksX0_plan_1 : cX0_plan.data.toList.drop 23 = dktX0_plan_1 := dk_seg dksX0_plan_0 23 rfl rfl
theorem dksX0_plan_2 : cX0_plan.data.toList.drop 47 = dktX0_plan_2 := dk_seg dksX0_plan_1 24 rfl rfl
theorem dksX0_plan_3 : cX0_plan.data.toList.drop 71 = dktX0_plan_3 := dk_seg dksX0_plan_2 24 rfl rfl
theorem dksX0_plan_4 : cX0_plan.data.toList.drop 94 = dktX0_plan_4 := dk_seg dksX0_plan_3 23 rfl rfl
theorem dX0_plan_0 : decode cX0_plan 0 = .ok (.iload_n 1, 1) := dk_27 (dk_at dksX0_plan_0 0 rfl rfl)
theorem dX0_plan_1 : decode cX0_plan 1 = .ok (.invokestatic 116, 3) := dk_184 0 116 (dk_at dksX0_plan_0 1 rfl rfl)
theorem dX0_plan_4 : decode cX0_plan 4 = .ok (.ifCond .eq 15, 3) := dk_153 0 15 (dk_at dksX0_plan_0 4 rfl rfl)
theorem dX0_plan_7 : decode cX0_plan 7 = .ok (.iload_n 2, 1) := dk_28 (dk_at dksX0_plan_0 7 rfl rfl)
theorem dX0_plan_8 : decode cX0_plan 8 = .ok (.i2l, 1) := dk_133 (dk_at dksX0_plan_0 8 rfl rfl)
theorem dX0_plan_9 : decode cX0_plan 9 = .ok (.lconst 0, 1) := dk_9 (dk_at dksX0_plan_0 9 rfl rfl)
theorem dX0_plan_10 : decode cX0_plan 10 = .ok (.ldc2_w 202, 3) := dk_20 0 202 (dk_at dksX0_plan_0 10 rfl rfl)
theorem dX0_plan_13 : decode cX0_plan 13 = .ok (.invokestatic 89, 3) := dk_184 0 89 (dk_at dksX0_plan_0 13 rfl rfl)
theorem dX0_plan_16 : decode cX0_plan 16 = .ok (.ifCond .ne 6, 3) := dk_154 0 6 (dk_at dksX0_plan_0 16 rfl rfl)
theorem dX0_plan_19 : decode cX0_plan 19 = .ok (.bipush (-2), 2) := dk_16 254 (dk_at dksX0_plan_0 19 rfl rfl)
theorem dX0_plan_21 : decode cX0_plan 21 = .ok (.ireturn, 1) := dk_172 (dk_at dksX0_plan_0 21 rfl rfl)
theorem dX0_plan_22 : decode cX0_plan 22 = .ok (.aload_n 0, 1) := dk_42 (dk_at dksX0_plan_0 22 rfl rfl)
theorem dX0_plan_23 : decode cX0_plan 23 = .ok (.getfield 78, 3) := dk_180 0 78 (dk_at dksX0_plan_1 0 rfl rfl)
theorem dX0_plan_26 : decode cX0_plan 26 = .ok (.iload_n 1, 1) := dk_27 (dk_at dksX0_plan_1 3 rfl rfl)
theorem dX0_plan_27 : decode cX0_plan 27 = .ok (.aaload, 1) := dk_50 (dk_at dksX0_plan_1 4 rfl rfl)
theorem dX0_plan_28 : decode cX0_plan 28 = .ok (.astore_n 3, 1) := dk_78 (dk_at dksX0_plan_1 5 rfl rfl)
theorem dX0_plan_29 : decode cX0_plan 29 = .ok (.aload_n 3, 1) := dk_45 (dk_at dksX0_plan_1 6 rfl rfl)
theorem dX0_plan_30 : decode cX0_plan 30 = .ok (.getfield 119, 3) := dk_180 0 119 (dk_at dksX0_plan_1 7 rfl rfl)
theorem dX0_plan_33 : decode cX0_plan 33 = .ok (.ifnonnull 9, 3) := dk_199 0 9 (dk_at dksX0_plan_1 10 rfl rfl)
theorem dX0_plan_36 : decode cX0_plan 36 = .ok (.aload_n 0, 1) := dk_42 (dk_at dksX0_plan_1 13 rfl rfl)
theorem dX0_plan_37 : decode cX0_plan 37 = .ok (.iconst 1, 1) := dk_4 (dk_at dksX0_plan_1 14 rfl rfl)
theorem dX0_plan_38 : decode cX0_plan 38 = .ok (.invokevirtual 122, 3) := dk_182 0 122 (dk_at dksX0_plan_1 15 rfl rfl)
theorem dX0_plan_41 : decode cX0_plan 41 = .ok (.ireturn, 1) := dk_172 (dk_at dksX0_plan_1 18 rfl rfl)
theorem dX0_plan_42 : decode cX0_plan 42 = .ok (.aload_n 3, 1) := dk_45 (dk_at dksX0_plan_1 19 rfl rfl)
theorem dX0_plan_43 : decode cX0_plan 43 = .ok (.invokevirtual 126, 3) := dk_182 0 126 (dk_at dksX0_plan_1 20 rfl rfl)
theorem dX0_plan_46 : decode cX0_plan 46 = .ok (.aload_n 0, 1) := dk_42 (dk_at dksX0_plan_1 23 rfl rfl)
theorem dX0_plan_47 : decode cX0_plan 47 = .ok (.invokevirtual 166, 3) := dk_182 0 166 (dk_at dksX0_plan_2 0 rfl rfl)
theorem dX0_plan_50 : decode cX0_plan 50 = .ok (.if_icmp .ge 6, 3) := dk_162 0 6 (dk_at dksX0_plan_2 3 rfl rfl)
theorem dX0_plan_53 : decode cX0_plan 53 = .ok (.bipush (-3), 2) := dk_16 253 (dk_at dksX0_plan_2 6 rfl rfl)
theorem dX0_plan_55 : decode cX0_plan 55 = .ok (.ireturn, 1) := dk_172 (dk_at dksX0_plan_2 8 rfl rfl)
theorem dX0_plan_56 : decode cX0_plan 56 = .ok (.aload_n 0, 1) := dk_42 (dk_at dksX0_plan_2 9 rfl rfl)
theorem dX0_plan_57 : decode cX0_plan 57 = .ok (.aload_n 3, 1) := dk_45 (dk_at dksX0_plan_2 10 rfl rfl)
theorem dX0_plan_58 : decode cX0_plan 58 = .ok (.invokevirtual 295, 3) := dk_182 1 39 (dk_at dksX0_plan_2 11 rfl rfl)
theorem dX0_plan_61 : decode cX0_plan 61 = .ok (.istore 4, 2) := dk_54 4 (dk_at dksX0_plan_2 14 rfl rfl)
theorem dX0_plan_63 : decode cX0_plan 63 = .ok (.iload_n 2, 1) := dk_28 (dk_at dksX0_plan_2 16 rfl rfl)
theorem dX0_plan_64 : decode cX0_plan 64 = .ok (.ifCond .ne 18, 3) := dk_154 0 18 (dk_at dksX0_plan_2 17 rfl rfl)
theorem dX0_plan_67 : decode cX0_plan 67 = .ok (.iload 4, 2) := dk_21 4 (dk_at dksX0_plan_2 20 rfl rfl)
theorem dX0_plan_69 : decode cX0_plan 69 = .ok (.bipush (-3), 2) := dk_16 253 (dk_at dksX0_plan_2 22 rfl rfl)
theorem dX0_plan_71 : decode cX0_plan 71 = .ok (.if_icmp .ne 7, 3) := dk_160 0 7 (dk_at dksX0_plan_3 0 rfl rfl)
theorem dX0_plan_74 : decode cX0_plan 74 = .ok (.iconst 0, 1) := dk_3 (dk_at dksX0_plan_3 3 rfl rfl)
theorem dX0_plan_75 : decode cX0_plan 75 = .ok (.goto 29, 3) := dk_167 0 29 (dk_at dksX0_plan_3 4 rfl rfl)
theorem dX0_plan_78 : decode cX0_plan 78 = .ok (.iconst 1, 1) := dk_4 (dk_at dksX0_plan_3 7 rfl rfl)
theorem dX0_plan_79 : decode cX0_plan 79 = .ok (.goto 25, 3) := dk_167 0 25 (dk_at dksX0_plan_3 8 rfl rfl)
theorem dX0_plan_82 : decode cX0_plan 82 = .ok (.iload 4, 2) := dk_21 4 (dk_at dksX0_plan_3 11 rfl rfl)
theorem dX0_plan_84 : decode cX0_plan 84 = .ok (.bipush (-3), 2) := dk_16 253 (dk_at dksX0_plan_3 13 rfl rfl)
theorem dX0_plan_86 : decode cX0_plan 86 = .ok (.if_icmp .eq 8, 3) := dk_159 0 8 (dk_at dksX0_plan_3 15 rfl rfl)
theorem dX0_plan_89 : decode cX0_plan 89 = .ok (.iload_n 2, 1) := dk_28 (dk_at dksX0_plan_3 18 rfl rfl)
theorem dX0_plan_90 : decode cX0_plan 90 = .ok (.iconst 2, 1) := dk_5 (dk_at dksX0_plan_3 19 rfl rfl)
theorem dX0_plan_91 : decode cX0_plan 91 = .ok (.if_icmp .ne 8, 3) := dk_160 0 8 (dk_at dksX0_plan_3 20 rfl rfl)
theorem dX0_plan_94 : decode cX0_plan 94 = .ok (.iload 4, 2) := dk_21 4 (dk_at dksX0_plan_4 0 rfl rfl)
theorem dX0_plan_96 : decode cX0_plan 96 = .ok (.goto 8, 3) := dk_167 0 8 (dk_at dksX0_plan_4 2 rfl rfl)
theorem dX0_plan_99 : decode cX0_plan 99 = .ok (.aload_n 0, 1) := dk_42 (dk_at dksX0_plan_4 5 rfl rfl)
theorem dX0_plan_100 : decode cX0_plan 100 = .ok (.aload_n 3, 1) := dk_45 (dk_at dksX0_plan_4 6 rfl rfl)
theorem dX0_plan_101 : decode cX0_plan 101 = .ok (.invokevirtual 299, 3) := dk_182 1 43 (dk_at dksX0_plan_4 7 rfl rfl)
theorem dX0_plan_104 : decode cX0_plan 104 = .ok (.ireturn, 1) := dk_172 (dk_at dksX0_plan_4 10 rfl rfl)
abbrev cX0_costBy : ByteArray := prog_1_method_47_code
def yX0_costBy : MethodName := ⟨RX0, "costBy", "(LSecondChances$Sheet;)I"⟩
def dkwX0_costBy_5 : List UInt8 := [172, 28, 21, 5, 96, 61, 132, 3, 1, 167, 255, 175, 28, 172]
abbrev dktX0_costBy_5 : List UInt8 := dkwX0_costBy_5 ++ []
def dkwX0_costBy_4 : List UInt8 := [132, 5, 1, 167, 255, 217, 42, 21, 4, 29, 182, 1, 20, 54, 5, 21, 5, 18, 253, 160, 0, 6, 16, 253]
abbrev dktX0_costBy_4 : List UInt8 := dkwX0_costBy_4 ++ dktX0_costBy_5
def dkwX0_costBy_3 : List UInt8 := [182, 0, 130, 21, 5, 182, 0, 133, 29, 160, 0, 10, 4, 21, 5, 120, 167, 0, 4, 3, 128, 54, 4]
abbrev dktX0_costBy_3 : List UInt8 := dkwX0_costBy_3 ++ dktX0_costBy_4
def dkwX0_costBy_2 : List UInt8 := [16, 8, 162, 0, 81, 3, 54, 4, 3, 54, 5, 21, 5, 42, 182, 0, 166, 162, 0, 36, 21, 4, 43, 43]
abbrev dktX0_costBy_2 : List UInt8 := dkwX0_costBy_2 ++ dktX0_costBy_3
def dkwX0_costBy_1 : List UInt8 := [20, 1, 37, 20, 0, 93, 184, 0, 89, 154, 0, 6, 16, 253, 172, 132, 3, 1, 167, 255, 220, 3, 62, 29]
abbrev dktX0_costBy_1 : List UInt8 := dkwX0_costBy_1 ++ dktX0_costBy_2
def dkwX0_costBy_0 : List UInt8 := [3, 61, 3, 62, 29, 42, 182, 0, 166, 162, 0, 34, 43, 43, 182, 0, 130, 29, 182, 0, 133, 133]
abbrev dktX0_costBy_0 : List UInt8 := dkwX0_costBy_0 ++ dktX0_costBy_1
theorem dksX0_costBy_0 : cX0_costBy.data.toList.drop 0 = dktX0_costBy_0 := by decide +kernel
theorem dksX0_costBy_1 : cX0_costBy.data.toList.drop 22 = dktX0_costBy_1 := dk_seg dksX0_costBy_0 22 rfl rfl
theorem dksX0_costBy_2 : cX0_costBy.data.toList.drop 46 = dktX0_costBy_2 := dk_seg dksX0_costBy_1 24 rfl rfl
theorem dksX0_costBy_3 : cX0_costBy.data.toList.drop 70 = dktX0_costBy_3 := dk_seg dksX0_costBy_2 24 rfl rfl
theorem dksX0_costBy_4 : cX0_costBy.data.toList.drop 93 = dktX0_costBy_4 := dk_seg dksX0_costBy_3 23 rfl rfl
theorem dksX0_costBy_5 : cX0_costBy.data.toList.drop 117 = dktX0_costBy_5 := dk_seg dksX0_costBy_4 24 rfl rfl
theorem dX0_costBy_0 : decode cX0_costBy 0 = .ok (.iconst 0, 1) := dk_3 (dk_at dksX0_costBy_0 0 rfl rfl)
theorem dX0_costBy_1 : decode cX0_costBy 1 = .ok (.istore_n 2, 1) := dk_61 (dk_at dksX0_costBy_0 1 rfl rfl)
theorem dX0_costBy_2 : decode cX0_costBy 2 = .ok (.iconst 0, 1) := dk_3 (dk_at dksX0_costBy_0 2 rfl rfl)
theorem dX0_costBy_3 : decode cX0_costBy 3 = .ok (.istore_n 3, 1) := dk_62 (dk_at dksX0_costBy_0 3 rfl rfl)
theorem dX0_costBy_4 : decode cX0_costBy 4 = .ok (.iload_n 3, 1) := dk_29 (dk_at dksX0_costBy_0 4 rfl rfl)
theorem dX0_costBy_5 : decode cX0_costBy 5 = .ok (.aload_n 0, 1) := dk_42 (dk_at dksX0_costBy_0 5 rfl rfl)
theorem dX0_costBy_6 : decode cX0_costBy 6 = .ok (.invokevirtual 166, 3) := dk_182 0 166 (dk_at dksX0_costBy_0 6 rfl rfl)
theorem dX0_costBy_9 : decode cX0_costBy 9 = .ok (.if_icmp .ge 34, 3) := dk_162 0 34 (dk_at dksX0_costBy_0 9 rfl rfl)
theorem dX0_costBy_12 : decode cX0_costBy 12 = .ok (.aload_n 1, 1) := dk_43 (dk_at dksX0_costBy_0 12 rfl rfl)
theorem dX0_costBy_13 : decode cX0_costBy 13 = .ok (.aload_n 1, 1) := dk_43 (dk_at dksX0_costBy_0 13 rfl rfl)
theorem dX0_costBy_14 : decode cX0_costBy 14 = .ok (.invokevirtual 130, 3) := dk_182 0 130 (dk_at dksX0_costBy_0 14 rfl rfl)
theorem dX0_costBy_17 : decode cX0_costBy 17 = .ok (.iload_n 3, 1) := dk_29 (dk_at dksX0_costBy_0 17 rfl rfl)
theorem dX0_costBy_18 : decode cX0_costBy 18 = .ok (.invokevirtual 133, 3) := dk_182 0 133 (dk_at dksX0_costBy_0 18 rfl rfl)
theorem dX0_costBy_21 : decode cX0_costBy 21 = .ok (.i2l, 1) := dk_133 (dk_at dksX0_costBy_0 21 rfl rfl)
theorem dX0_costBy_22 : decode cX0_costBy 22 = .ok (.ldc2_w 293, 3) := dk_20 1 37 (dk_at dksX0_costBy_1 0 rfl rfl)
theorem dX0_costBy_25 : decode cX0_costBy 25 = .ok (.ldc2_w 93, 3) := dk_20 0 93 (dk_at dksX0_costBy_1 3 rfl rfl)
theorem dX0_costBy_28 : decode cX0_costBy 28 = .ok (.invokestatic 89, 3) := dk_184 0 89 (dk_at dksX0_costBy_1 6 rfl rfl)
theorem dX0_costBy_31 : decode cX0_costBy 31 = .ok (.ifCond .ne 6, 3) := dk_154 0 6 (dk_at dksX0_costBy_1 9 rfl rfl)
theorem dX0_costBy_34 : decode cX0_costBy 34 = .ok (.bipush (-3), 2) := dk_16 253 (dk_at dksX0_costBy_1 12 rfl rfl)
theorem dX0_costBy_36 : decode cX0_costBy 36 = .ok (.ireturn, 1) := dk_172 (dk_at dksX0_costBy_1 14 rfl rfl)
theorem dX0_costBy_37 : decode cX0_costBy 37 = .ok (.iinc 3 1, 3) := dk_132 3 1 (dk_at dksX0_costBy_1 15 rfl rfl)
theorem dX0_costBy_40 : decode cX0_costBy 40 = .ok (.goto (-36), 3) := dk_167 255 220 (dk_at dksX0_costBy_1 18 rfl rfl)
theorem dX0_costBy_43 : decode cX0_costBy 43 = .ok (.iconst 0, 1) := dk_3 (dk_at dksX0_costBy_1 21 rfl rfl)
theorem dX0_costBy_44 : decode cX0_costBy 44 = .ok (.istore_n 3, 1) := dk_62 (dk_at dksX0_costBy_1 22 rfl rfl)
theorem dX0_costBy_45 : decode cX0_costBy 45 = .ok (.iload_n 3, 1) := dk_29 (dk_at dksX0_costBy_1 23 rfl rfl)
theorem dX0_costBy_46 : decode cX0_costBy 46 = .ok (.bipush 8, 2) := dk_16 8 (dk_at dksX0_costBy_2 0 rfl rfl)
theorem dX0_costBy_48 : decode cX0_costBy 48 = .ok (.if_icmp .ge 81, 3) := dk_162 0 81 (dk_at dksX0_costBy_2 2 rfl rfl)
theorem dX0_costBy_51 : decode cX0_costBy 51 = .ok (.iconst 0, 1) := dk_3 (dk_at dksX0_costBy_2 5 rfl rfl)
theorem dX0_costBy_52 : decode cX0_costBy 52 = .ok (.istore 4, 2) := dk_54 4 (dk_at dksX0_costBy_2 6 rfl rfl)
theorem dX0_costBy_54 : decode cX0_costBy 54 = .ok (.iconst 0, 1) := dk_3 (dk_at dksX0_costBy_2 8 rfl rfl)
theorem dX0_costBy_55 : decode cX0_costBy 55 = .ok (.istore 5, 2) := dk_54 5 (dk_at dksX0_costBy_2 9 rfl rfl)
theorem dX0_costBy_57 : decode cX0_costBy 57 = .ok (.iload 5, 2) := dk_21 5 (dk_at dksX0_costBy_2 11 rfl rfl)
theorem dX0_costBy_59 : decode cX0_costBy 59 = .ok (.aload_n 0, 1) := dk_42 (dk_at dksX0_costBy_2 13 rfl rfl)
theorem dX0_costBy_60 : decode cX0_costBy 60 = .ok (.invokevirtual 166, 3) := dk_182 0 166 (dk_at dksX0_costBy_2 14 rfl rfl)
theorem dX0_costBy_63 : decode cX0_costBy 63 = .ok (.if_icmp .ge 36, 3) := dk_162 0 36 (dk_at dksX0_costBy_2 17 rfl rfl)
theorem dX0_costBy_66 : decode cX0_costBy 66 = .ok (.iload 4, 2) := dk_21 4 (dk_at dksX0_costBy_2 20 rfl rfl)
theorem dX0_costBy_68 : decode cX0_costBy 68 = .ok (.aload_n 1, 1) := dk_43 (dk_at dksX0_costBy_2 22 rfl rfl)
theorem dX0_costBy_69 : decode cX0_costBy 69 = .ok (.aload_n 1, 1) := dk_43 (dk_at dksX0_costBy_2 23 rfl rfl)
theorem dX0_costBy_70 : decode cX0_costBy 70 = .ok (.invokevirtual 130, 3) := dk_182 0 130 (dk_at dksX0_costBy_3 0 rfl rfl)
theorem dX0_costBy_73 : decode cX0_costBy 73 = .ok (.iload 5, 2) := dk_21 5 (dk_at dksX0_costBy_3 3 rfl rfl)
theorem dX0_costBy_75 : decode cX0_costBy 75 = .ok (.invokevirtual 133, 3) := dk_182 0 133 (dk_at dksX0_costBy_3 5 rfl rfl)
theorem dX0_costBy_78 : decode cX0_costBy 78 = .ok (.iload_n 3, 1) := dk_29 (dk_at dksX0_costBy_3 8 rfl rfl)
theorem dX0_costBy_79 : decode cX0_costBy 79 = .ok (.if_icmp .ne 10, 3) := dk_160 0 10 (dk_at dksX0_costBy_3 9 rfl rfl)
theorem dX0_costBy_82 : decode cX0_costBy 82 = .ok (.iconst 1, 1) := dk_4 (dk_at dksX0_costBy_3 12 rfl rfl)
theorem dX0_costBy_83 : decode cX0_costBy 83 = .ok (.iload 5, 2) := dk_21 5 (dk_at dksX0_costBy_3 13 rfl rfl)
theorem dX0_costBy_85 : decode cX0_costBy 85 = .ok (.ishl, 1) := dk_120 (dk_at dksX0_costBy_3 15 rfl rfl)
theorem dX0_costBy_86 : decode cX0_costBy 86 = .ok (.goto 4, 3) := dk_167 0 4 (dk_at dksX0_costBy_3 16 rfl rfl)
theorem dX0_costBy_89 : decode cX0_costBy 89 = .ok (.iconst 0, 1) := dk_3 (dk_at dksX0_costBy_3 19 rfl rfl)
theorem dX0_costBy_90 : decode cX0_costBy 90 = .ok (.ior, 1) := dk_128 (dk_at dksX0_costBy_3 20 rfl rfl)
theorem dX0_costBy_91 : decode cX0_costBy 91 = .ok (.istore 4, 2) := dk_54 4 (dk_at dksX0_costBy_3 21 rfl rfl)
theorem dX0_costBy_93 : decode cX0_costBy 93 = .ok (.iinc 5 1, 3) := dk_132 5 1 (dk_at dksX0_costBy_4 0 rfl rfl)
theorem dX0_costBy_96 : decode cX0_costBy 96 = .ok (.goto (-39), 3) := dk_167 255 217 (dk_at dksX0_costBy_4 3 rfl rfl)
theorem dX0_costBy_99 : decode cX0_costBy 99 = .ok (.aload_n 0, 1) := dk_42 (dk_at dksX0_costBy_4 6 rfl rfl)
theorem dX0_costBy_100 : decode cX0_costBy 100 = .ok (.iload 4, 2) := dk_21 4 (dk_at dksX0_costBy_4 7 rfl rfl)
theorem dX0_costBy_102 : decode cX0_costBy 102 = .ok (.iload_n 3, 1) := dk_29 (dk_at dksX0_costBy_4 9 rfl rfl)
theorem dX0_costBy_103 : decode cX0_costBy 103 = .ok (.invokevirtual 276, 3) := dk_182 1 20 (dk_at dksX0_costBy_4 10 rfl rfl)
theorem dX0_costBy_106 : decode cX0_costBy 106 = .ok (.istore 5, 2) := dk_54 5 (dk_at dksX0_costBy_4 13 rfl rfl)
theorem dX0_costBy_108 : decode cX0_costBy 108 = .ok (.iload 5, 2) := dk_21 5 (dk_at dksX0_costBy_4 15 rfl rfl)
theorem dX0_costBy_110 : decode cX0_costBy 110 = .ok (.ldc 253, 2) := dk_18 253 (dk_at dksX0_costBy_4 17 rfl rfl)
theorem dX0_costBy_112 : decode cX0_costBy 112 = .ok (.if_icmp .ne 6, 3) := dk_160 0 6 (dk_at dksX0_costBy_4 19 rfl rfl)
theorem dX0_costBy_115 : decode cX0_costBy 115 = .ok (.bipush (-3), 2) := dk_16 253 (dk_at dksX0_costBy_4 22 rfl rfl)
theorem dX0_costBy_117 : decode cX0_costBy 117 = .ok (.ireturn, 1) := dk_172 (dk_at dksX0_costBy_5 0 rfl rfl)
theorem dX0_costBy_118 : decode cX0_costBy 118 = .ok (.iload_n 2, 1) := dk_28 (dk_at dksX0_costBy_5 1 rfl rfl)
theorem dX0_costBy_119 : decode cX0_costBy 119 = .ok (.iload 5, 2) := dk_21 5 (dk_at dksX0_costBy_5 2 rfl rfl)
theorem dX0_costBy_121 : decode cX0_costBy 121 = .ok (.iadd, 1) := dk_96 (dk_at dksX0_costBy_5 4 rfl rfl)
theorem dX0_costBy_122 : decode cX0_costBy 122 = .ok (.istore_n 2, 1) := dk_61 (dk_at dksX0_costBy_5 5 rfl rfl)
theorem dX0_costBy_123 : decode cX0_costBy 123 = .ok (.iinc 3 1, 3) := dk_132 3 1 (dk_at dksX0_costBy_5 6 rfl rfl)
theorem dX0_costBy_126 : decode cX0_costBy 126 = .ok (.goto (-81), 3) := dk_167 255 175 (dk_at dksX0_costBy_5 9 rfl rfl)
theorem dX0_costBy_129 : decode cX0_costBy 129 = .ok (.iload_n 2, 1) := dk_28 (dk_at dksX0_costBy_5 12 rfl rfl)
theorem dX0_costBy_130 : decode cX0_costBy 130 = .ok (.ireturn, 1) := dk_172 (dk_at dksX0_costBy_5 13 rfl rfl)
abbrev cX0_worthBy : ByteArray := prog_1_method_48_code
def yX0_worthBy : MethodName := ⟨RX0, "worthBy", "(LSecondChances$Sheet;)I"⟩
def dkwX0_worthBy_1 : List UInt8 := [160, 0, 7, 3, 167, 0, 6, 4, 29, 120, 128, 61, 132, 3, 1, 167, 255, 222, 42, 28, 182, 1, 17, 172]
abbrev dktX0_worthBy_1 : List UInt8 := dkwX0_worthBy_1 ++ []
def dkwX0_worthBy_0 : List UInt8 := [3, 61, 3, 62, 29, 42, 182, 0, 166, 162, 0, 32, 28, 43, 43, 182, 0, 130, 29, 182, 0, 133, 2]
abbrev dktX0_worthBy_0 : List UInt8 := dkwX0_worthBy_0 ++ dktX0_worthBy_1
theorem dksX0_worthBy_0 : cX0_worthBy.data.toList.drop 0 = dktX0_worthBy_0 := by decide +kernel
theorem dksX0_worthBy_1 : cX0_worthBy.data.toList.drop 23 = dktX0_worthBy_1 := dk_seg dksX0_worthBy_0 23 rfl rfl
theorem dX0_worthBy_0 : decode cX0_worthBy 0 = .ok (.iconst 0, 1) := dk_3 (dk_at dksX0_worthBy_0 0 rfl rfl)
theorem dX0_worthBy_1 : decode cX0_worthBy 1 = .ok (.istore_n 2, 1) := dk_61 (dk_at dksX0_worthBy_0 1 rfl rfl)
theorem dX0_worthBy_2 : decode cX0_worthBy 2 = .ok (.iconst 0, 1) := dk_3 (dk_at dksX0_worthBy_0 2 rfl rfl)
theorem dX0_worthBy_3 : decode cX0_worthBy 3 = .ok (.istore_n 3, 1) := dk_62 (dk_at dksX0_worthBy_0 3 rfl rfl)
theorem dX0_worthBy_4 : decode cX0_worthBy 4 = .ok (.iload_n 3, 1) := dk_29 (dk_at dksX0_worthBy_0 4 rfl rfl)
theorem dX0_worthBy_5 : decode cX0_worthBy 5 = .ok (.aload_n 0, 1) := dk_42 (dk_at dksX0_worthBy_0 5 rfl rfl)
theorem dX0_worthBy_6 : decode cX0_worthBy 6 = .ok (.invokevirtual 166, 3) := dk_182 0 166 (dk_at dksX0_worthBy_0 6 rfl rfl)
theorem dX0_worthBy_9 : decode cX0_worthBy 9 = .ok (.if_icmp .ge 32, 3) := dk_162 0 32 (dk_at dksX0_worthBy_0 9 rfl rfl)
theorem dX0_worthBy_12 : decode cX0_worthBy 12 = .ok (.iload_n 2, 1) := dk_28 (dk_at dksX0_worthBy_0 12 rfl rfl)
theorem dX0_worthBy_13 : decode cX0_worthBy 13 = .ok (.aload_n 1, 1) := dk_43 (dk_at dksX0_worthBy_0 13 rfl rfl)
theorem dX0_worthBy_14 : decode cX0_worthBy 14 = .ok (.aload_n 1, 1) := dk_43 (dk_at dksX0_worthBy_0 14 rfl rfl)
theorem dX0_worthBy_15 : decode cX0_worthBy 15 = .ok (.invokevirtual 130, 3) := dk_182 0 130 (dk_at dksX0_worthBy_0 15 rfl rfl)
theorem dX0_worthBy_18 : decode cX0_worthBy 18 = .ok (.iload_n 3, 1) := dk_29 (dk_at dksX0_worthBy_0 18 rfl rfl)
theorem dX0_worthBy_19 : decode cX0_worthBy 19 = .ok (.invokevirtual 133, 3) := dk_182 0 133 (dk_at dksX0_worthBy_0 19 rfl rfl)
theorem dX0_worthBy_22 : decode cX0_worthBy 22 = .ok (.iconst (-1), 1) := dk_2 (dk_at dksX0_worthBy_0 22 rfl rfl)
theorem dX0_worthBy_23 : decode cX0_worthBy 23 = .ok (.if_icmp .ne 7, 3) := dk_160 0 7 (dk_at dksX0_worthBy_1 0 rfl rfl)
theorem dX0_worthBy_26 : decode cX0_worthBy 26 = .ok (.iconst 0, 1) := dk_3 (dk_at dksX0_worthBy_1 3 rfl rfl)
theorem dX0_worthBy_27 : decode cX0_worthBy 27 = .ok (.goto 6, 3) := dk_167 0 6 (dk_at dksX0_worthBy_1 4 rfl rfl)
theorem dX0_worthBy_30 : decode cX0_worthBy 30 = .ok (.iconst 1, 1) := dk_4 (dk_at dksX0_worthBy_1 7 rfl rfl)
theorem dX0_worthBy_31 : decode cX0_worthBy 31 = .ok (.iload_n 3, 1) := dk_29 (dk_at dksX0_worthBy_1 8 rfl rfl)
theorem dX0_worthBy_32 : decode cX0_worthBy 32 = .ok (.ishl, 1) := dk_120 (dk_at dksX0_worthBy_1 9 rfl rfl)
theorem dX0_worthBy_33 : decode cX0_worthBy 33 = .ok (.ior, 1) := dk_128 (dk_at dksX0_worthBy_1 10 rfl rfl)
theorem dX0_worthBy_34 : decode cX0_worthBy 34 = .ok (.istore_n 2, 1) := dk_61 (dk_at dksX0_worthBy_1 11 rfl rfl)
theorem dX0_worthBy_35 : decode cX0_worthBy 35 = .ok (.iinc 3 1, 3) := dk_132 3 1 (dk_at dksX0_worthBy_1 12 rfl rfl)
theorem dX0_worthBy_38 : decode cX0_worthBy 38 = .ok (.goto (-34), 3) := dk_167 255 222 (dk_at dksX0_worthBy_1 15 rfl rfl)
theorem dX0_worthBy_41 : decode cX0_worthBy 41 = .ok (.aload_n 0, 1) := dk_42 (dk_at dksX0_worthBy_1 18 rfl rfl)
theorem dX0_worthBy_42 : decode cX0_worthBy 42 = .ok (.iload_n 2, 1) := dk_28 (dk_at dksX0_worthBy_1 19 rfl rfl)
theorem dX0_worthBy_43 : decode cX0_worthBy 43 = .ok (.invokevirtual 273, 3) := dk_182 1 17 (dk_at dksX0_worthBy_1 20 rfl rfl)
theorem dX0_worthBy_46 : decode cX0_worthBy 46 = .ok (.ireturn, 1) := dk_172 (dk_at dksX0_worthBy_1 23 rfl rfl)
abbrev cX0_asked : ByteArray := prog_1_method_51_code
def yX0_asked : MethodName := ⟨RX0, "asked", "(II)I"⟩
def dkwX0_asked_1 : List UInt8 := [16, 254, 172]
abbrev dktX0_asked_1 : List UInt8 := dkwX0_asked_1 ++ []
def dkwX0_asked_0 : List UInt8 := [27, 184, 0, 95, 153, 0, 19, 28, 184, 0, 107, 153, 0, 12, 42, 27, 28, 182, 1, 46, 167, 0, 5]
abbrev dktX0_asked_0 : List UInt8 := dkwX0_asked_0 ++ dktX0_asked_1
theorem dksX0_asked_0 : cX0_asked.data.toList.drop 0 = dktX0_asked_0 := by decide +kernel
theorem dksX0_asked_1 : cX0_asked.data.toList.drop 23 = dktX0_asked_1 := dk_seg dksX0_asked_0 23 rfl rfl
theorem dX0_asked_0 : decode cX0_asked 0 = .ok (.iload_n 1, 1) := dk_27 (dk_at dksX0_asked_0 0 rfl rfl)
theorem dX0_asked_1 : decode cX0_asked 1 = .ok (.invokestatic 95, 3) := dk_184 0 95 (dk_at dksX0_asked_0 1 rfl rfl)
theorem dX0_asked_4 : decode cX0_asked 4 = .ok (.ifCond .eq 19, 3) := dk_153 0 19 (dk_at dksX0_asked_0 4 rfl rfl)
theorem dX0_asked_7 : decode cX0_asked 7 = .ok (.iload_n 2, 1) := dk_28 (dk_at dksX0_asked_0 7 rfl rfl)
theorem dX0_asked_8 : decode cX0_asked 8 = .ok (.invokestatic 107, 3) := dk_184 0 107 (dk_at dksX0_asked_0 8 rfl rfl)
theorem dX0_asked_11 : decode cX0_asked 11 = .ok (.ifCond .eq 12, 3) := dk_153 0 12 (dk_at dksX0_asked_0 11 rfl rfl)
theorem dX0_asked_14 : decode cX0_asked 14 = .ok (.aload_n 0, 1) := dk_42 (dk_at dksX0_asked_0 14 rfl rfl)
theorem dX0_asked_15 : decode cX0_asked 15 = .ok (.iload_n 1, 1) := dk_27 (dk_at dksX0_asked_0 15 rfl rfl)
theorem dX0_asked_16 : decode cX0_asked 16 = .ok (.iload_n 2, 1) := dk_28 (dk_at dksX0_asked_0 16 rfl rfl)
theorem dX0_asked_17 : decode cX0_asked 17 = .ok (.invokevirtual 302, 3) := dk_182 1 46 (dk_at dksX0_asked_0 17 rfl rfl)
theorem dX0_asked_20 : decode cX0_asked 20 = .ok (.goto 5, 3) := dk_167 0 5 (dk_at dksX0_asked_0 20 rfl rfl)
theorem dX0_asked_23 : decode cX0_asked 23 = .ok (.bipush (-2), 2) := dk_16 254 (dk_at dksX0_asked_1 0 rfl rfl)
theorem dX0_asked_25 : decode cX0_asked 25 = .ok (.ireturn, 1) := dk_172 (dk_at dksX0_asked_1 2 rfl rfl)
abbrev cX0_askedOf : ByteArray := prog_1_method_50_code
def yX0_askedOf : MethodName := ⟨RX0, "askedOf", "(II)I"⟩
def dkwX0_askedOf_2 : List UInt8 := [4, 167, 0, 4, 3, 96, 62, 132, 4, 1, 167, 255, 204, 29, 172]
abbrev dktX0_askedOf_2 : List UInt8 := dkwX0_askedOf_2 ++ []
def dkwX0_askedOf_1 : List UInt8 := [182, 0, 238, 153, 0, 25, 42, 42, 21, 4, 182, 0, 168, 28, 182, 0, 230, 27, 184, 0, 223, 153, 0, 7]
abbrev dktX0_askedOf_1 : List UInt8 := dkwX0_askedOf_1 ++ dktX0_askedOf_2
def dkwX0_askedOf_0 : List UInt8 := [3, 62, 3, 54, 4, 21, 4, 42, 182, 0, 166, 162, 0, 49, 29, 42, 42, 21, 4, 182, 0, 168, 28]
abbrev dktX0_askedOf_0 : List UInt8 := dkwX0_askedOf_0 ++ dktX0_askedOf_1
theorem dksX0_askedOf_0 : cX0_askedOf.data.toList.drop 0 = dktX0_askedOf_0 := by decide +kernel
theorem dksX0_askedOf_1 : cX0_askedOf.data.toList.drop 23 = dktX0_askedOf_1 := dk_seg dksX0_askedOf_0 23 rfl rfl
theorem dksX0_askedOf_2 : cX0_askedOf.data.toList.drop 47 = dktX0_askedOf_2 := dk_seg dksX0_askedOf_1 24 rfl rfl
theorem dX0_askedOf_0 : decode cX0_askedOf 0 = .ok (.iconst 0, 1) := dk_3 (dk_at dksX0_askedOf_0 0 rfl rfl)
theorem dX0_askedOf_1 : decode cX0_askedOf 1 = .ok (.istore_n 3, 1) := dk_62 (dk_at dksX0_askedOf_0 1 rfl rfl)
theorem dX0_askedOf_2 : decode cX0_askedOf 2 = .ok (.iconst 0, 1) := dk_3 (dk_at dksX0_askedOf_0 2 rfl rfl)
theorem dX0_askedOf_3 : decode cX0_askedOf 3 = .ok (.istore 4, 2) := dk_54 4 (dk_at dksX0_askedOf_0 3 rfl rfl)
theorem dX0_askedOf_5 : decode cX0_askedOf 5 = .ok (.iload 4, 2) := dk_21 4 (dk_at dksX0_askedOf_0 5 rfl rfl)
theorem dX0_askedOf_7 : decode cX0_askedOf 7 = .ok (.aload_n 0, 1) := dk_42 (dk_at dksX0_askedOf_0 7 rfl rfl)
theorem dX0_askedOf_8 : decode cX0_askedOf 8 = .ok (.invokevirtual 166, 3) := dk_182 0 166 (dk_at dksX0_askedOf_0 8 rfl rfl)
theorem dX0_askedOf_11 : decode cX0_askedOf 11 = .ok (.if_icmp .ge 49, 3) := dk_162 0 49 (dk_at dksX0_askedOf_0 11 rfl rfl)
theorem dX0_askedOf_14 : decode cX0_askedOf 14 = .ok (.iload_n 3, 1) := dk_29 (dk_at dksX0_askedOf_0 14 rfl rfl)
theorem dX0_askedOf_15 : decode cX0_askedOf 15 = .ok (.aload_n 0, 1) := dk_42 (dk_at dksX0_askedOf_0 15 rfl rfl)
theorem dX0_askedOf_16 : decode cX0_askedOf 16 = .ok (.aload_n 0, 1) := dk_42 (dk_at dksX0_askedOf_0 16 rfl rfl)
theorem dX0_askedOf_17 : decode cX0_askedOf 17 = .ok (.iload 4, 2) := dk_21 4 (dk_at dksX0_askedOf_0 17 rfl rfl)
theorem dX0_askedOf_19 : decode cX0_askedOf 19 = .ok (.invokevirtual 168, 3) := dk_182 0 168 (dk_at dksX0_askedOf_0 19 rfl rfl)
theorem dX0_askedOf_22 : decode cX0_askedOf 22 = .ok (.iload_n 2, 1) := dk_28 (dk_at dksX0_askedOf_0 22 rfl rfl)
theorem dX0_askedOf_23 : decode cX0_askedOf 23 = .ok (.invokevirtual 238, 3) := dk_182 0 238 (dk_at dksX0_askedOf_1 0 rfl rfl)
theorem dX0_askedOf_26 : decode cX0_askedOf 26 = .ok (.ifCond .eq 25, 3) := dk_153 0 25 (dk_at dksX0_askedOf_1 3 rfl rfl)
theorem dX0_askedOf_29 : decode cX0_askedOf 29 = .ok (.aload_n 0, 1) := dk_42 (dk_at dksX0_askedOf_1 6 rfl rfl)
theorem dX0_askedOf_30 : decode cX0_askedOf 30 = .ok (.aload_n 0, 1) := dk_42 (dk_at dksX0_askedOf_1 7 rfl rfl)
theorem dX0_askedOf_31 : decode cX0_askedOf 31 = .ok (.iload 4, 2) := dk_21 4 (dk_at dksX0_askedOf_1 8 rfl rfl)
theorem dX0_askedOf_33 : decode cX0_askedOf 33 = .ok (.invokevirtual 168, 3) := dk_182 0 168 (dk_at dksX0_askedOf_1 10 rfl rfl)
theorem dX0_askedOf_36 : decode cX0_askedOf 36 = .ok (.iload_n 2, 1) := dk_28 (dk_at dksX0_askedOf_1 13 rfl rfl)
theorem dX0_askedOf_37 : decode cX0_askedOf 37 = .ok (.invokevirtual 230, 3) := dk_182 0 230 (dk_at dksX0_askedOf_1 14 rfl rfl)
theorem dX0_askedOf_40 : decode cX0_askedOf 40 = .ok (.iload_n 1, 1) := dk_27 (dk_at dksX0_askedOf_1 17 rfl rfl)
theorem dX0_askedOf_41 : decode cX0_askedOf 41 = .ok (.invokestatic 223, 3) := dk_184 0 223 (dk_at dksX0_askedOf_1 18 rfl rfl)
theorem dX0_askedOf_44 : decode cX0_askedOf 44 = .ok (.ifCond .eq 7, 3) := dk_153 0 7 (dk_at dksX0_askedOf_1 21 rfl rfl)
theorem dX0_askedOf_47 : decode cX0_askedOf 47 = .ok (.iconst 1, 1) := dk_4 (dk_at dksX0_askedOf_2 0 rfl rfl)
theorem dX0_askedOf_48 : decode cX0_askedOf 48 = .ok (.goto 4, 3) := dk_167 0 4 (dk_at dksX0_askedOf_2 1 rfl rfl)
theorem dX0_askedOf_51 : decode cX0_askedOf 51 = .ok (.iconst 0, 1) := dk_3 (dk_at dksX0_askedOf_2 4 rfl rfl)
theorem dX0_askedOf_52 : decode cX0_askedOf 52 = .ok (.iadd, 1) := dk_96 (dk_at dksX0_askedOf_2 5 rfl rfl)
theorem dX0_askedOf_53 : decode cX0_askedOf 53 = .ok (.istore_n 3, 1) := dk_62 (dk_at dksX0_askedOf_2 6 rfl rfl)
theorem dX0_askedOf_54 : decode cX0_askedOf 54 = .ok (.iinc 4 1, 3) := dk_132 4 1 (dk_at dksX0_askedOf_2 7 rfl rfl)
theorem dX0_askedOf_57 : decode cX0_askedOf 57 = .ok (.goto (-52), 3) := dk_167 255 204 (dk_at dksX0_askedOf_2 10 rfl rfl)
theorem dX0_askedOf_60 : decode cX0_askedOf 60 = .ok (.iload_n 3, 1) := dk_29 (dk_at dksX0_askedOf_2 13 rfl rfl)
theorem dX0_askedOf_61 : decode cX0_askedOf 61 = .ok (.ireturn, 1) := dk_172 (dk_at dksX0_askedOf_2 14 rfl rfl)
abbrev cX0_crowd : ByteArray := prog_1_method_53_code
def yX0_crowd : MethodName := ⟨RX0, "crowd", "(I)I"⟩
def dkwX0_crowd_0 : List UInt8 := [27, 133, 9, 20, 0, 202, 184, 0, 89, 153, 0, 11, 42, 27, 182, 1, 49, 167, 0, 5, 16, 254, 172]
abbrev dktX0_crowd_0 : List UInt8 := dkwX0_crowd_0 ++ []
theorem dksX0_crowd_0 : cX0_crowd.data.toList.drop 0 = dktX0_crowd_0 := by decide +kernel
theorem dX0_crowd_0 : decode cX0_crowd 0 = .ok (.iload_n 1, 1) := dk_27 (dk_at dksX0_crowd_0 0 rfl rfl)
theorem dX0_crowd_1 : decode cX0_crowd 1 = .ok (.i2l, 1) := dk_133 (dk_at dksX0_crowd_0 1 rfl rfl)
theorem dX0_crowd_2 : decode cX0_crowd 2 = .ok (.lconst 0, 1) := dk_9 (dk_at dksX0_crowd_0 2 rfl rfl)
theorem dX0_crowd_3 : decode cX0_crowd 3 = .ok (.ldc2_w 202, 3) := dk_20 0 202 (dk_at dksX0_crowd_0 3 rfl rfl)
theorem dX0_crowd_6 : decode cX0_crowd 6 = .ok (.invokestatic 89, 3) := dk_184 0 89 (dk_at dksX0_crowd_0 6 rfl rfl)
theorem dX0_crowd_9 : decode cX0_crowd 9 = .ok (.ifCond .eq 11, 3) := dk_153 0 11 (dk_at dksX0_crowd_0 9 rfl rfl)
theorem dX0_crowd_12 : decode cX0_crowd 12 = .ok (.aload_n 0, 1) := dk_42 (dk_at dksX0_crowd_0 12 rfl rfl)
theorem dX0_crowd_13 : decode cX0_crowd 13 = .ok (.iload_n 1, 1) := dk_27 (dk_at dksX0_crowd_0 13 rfl rfl)
theorem dX0_crowd_14 : decode cX0_crowd 14 = .ok (.invokevirtual 305, 3) := dk_182 1 49 (dk_at dksX0_crowd_0 14 rfl rfl)
theorem dX0_crowd_17 : decode cX0_crowd 17 = .ok (.goto 5, 3) := dk_167 0 5 (dk_at dksX0_crowd_0 17 rfl rfl)
theorem dX0_crowd_20 : decode cX0_crowd 20 = .ok (.bipush (-2), 2) := dk_16 254 (dk_at dksX0_crowd_0 20 rfl rfl)
theorem dX0_crowd_22 : decode cX0_crowd 22 = .ok (.ireturn, 1) := dk_172 (dk_at dksX0_crowd_0 22 rfl rfl)
abbrev cX0_crowdOf : ByteArray := prog_1_method_52_code
def yX0_crowdOf : MethodName := ⟨RX0, "crowdOf", "(I)I"⟩
def dkwX0_crowdOf_3 : List UInt8 := [154, 0, 7, 28, 167, 0, 14, 27, 4, 160, 0, 7, 29, 167, 0, 5, 21, 4, 172]
abbrev dktX0_crowdOf_3 : List UInt8 := dkwX0_crowdOf_3 ++ []
def dkwX0_crowdOf_2 : List UInt8 := [21, 5, 21, 6, 182, 1, 46, 54, 4, 132, 6, 1, 167, 255, 217, 132, 5, 1, 167, 255, 201, 27]
abbrev dktX0_crowdOf_2 : List UInt8 := dkwX0_crowdOf_2 ++ dktX0_crowdOf_3
def dkwX0_crowdOf_1 : List UInt8 := [162, 0, 38, 42, 21, 5, 21, 6, 182, 1, 46, 21, 4, 164, 0, 19, 21, 5, 61, 21, 6, 62, 42]
abbrev dktX0_crowdOf_1 : List UInt8 := dkwX0_crowdOf_1 ++ dktX0_crowdOf_2
def dkwX0_crowdOf_0 : List UInt8 := [2, 61, 2, 62, 3, 54, 4, 3, 54, 5, 21, 5, 16, 8, 162, 0, 54, 3, 54, 6, 21, 6, 16, 8]
abbrev dktX0_crowdOf_0 : List UInt8 := dkwX0_crowdOf_0 ++ dktX0_crowdOf_1
theorem dksX0_crowdOf_0 : cX0_crowdOf.data.toList.drop 0 = dktX0_crowdOf_0 := by decide +kernel
theorem dksX0_crowdOf_1 : cX0_crowdOf.data.toList.drop 24 = dktX0_crowdOf_1 := dk_seg dksX0_crowdOf_0 24 rfl rfl
theorem dksX0_crowdOf_2 : cX0_crowdOf.data.toList.drop 47 = dktX0_crowdOf_2 := dk_seg dksX0_crowdOf_1 23 rfl rfl
theorem dksX0_crowdOf_3 : cX0_crowdOf.data.toList.drop 69 = dktX0_crowdOf_3 := dk_seg dksX0_crowdOf_2 22 rfl rfl
theorem dX0_crowdOf_0 : decode cX0_crowdOf 0 = .ok (.iconst (-1), 1) := dk_2 (dk_at dksX0_crowdOf_0 0 rfl rfl)
theorem dX0_crowdOf_1 : decode cX0_crowdOf 1 = .ok (.istore_n 2, 1) := dk_61 (dk_at dksX0_crowdOf_0 1 rfl rfl)
theorem dX0_crowdOf_2 : decode cX0_crowdOf 2 = .ok (.iconst (-1), 1) := dk_2 (dk_at dksX0_crowdOf_0 2 rfl rfl)
theorem dX0_crowdOf_3 : decode cX0_crowdOf 3 = .ok (.istore_n 3, 1) := dk_62 (dk_at dksX0_crowdOf_0 3 rfl rfl)
theorem dX0_crowdOf_4 : decode cX0_crowdOf 4 = .ok (.iconst 0, 1) := dk_3 (dk_at dksX0_crowdOf_0 4 rfl rfl)
theorem dX0_crowdOf_5 : decode cX0_crowdOf 5 = .ok (.istore 4, 2) := dk_54 4 (dk_at dksX0_crowdOf_0 5 rfl rfl)
theorem dX0_crowdOf_7 : decode cX0_crowdOf 7 = .ok (.iconst 0, 1) := dk_3 (dk_at dksX0_crowdOf_0 7 rfl rfl)
theorem dX0_crowdOf_8 : decode cX0_crowdOf 8 = .ok (.istore 5, 2) := dk_54 5 (dk_at dksX0_crowdOf_0 8 rfl rfl)
theorem dX0_crowdOf_10 : decode cX0_crowdOf 10 = .ok (.iload 5, 2) := dk_21 5 (dk_at dksX0_crowdOf_0 10 rfl rfl)
theorem dX0_crowdOf_12 : decode cX0_crowdOf 12 = .ok (.bipush 8, 2) := dk_16 8 (dk_at dksX0_crowdOf_0 12 rfl rfl)
theorem dX0_crowdOf_14 : decode cX0_crowdOf 14 = .ok (.if_icmp .ge 54, 3) := dk_162 0 54 (dk_at dksX0_crowdOf_0 14 rfl rfl)
theorem dX0_crowdOf_17 : decode cX0_crowdOf 17 = .ok (.iconst 0, 1) := dk_3 (dk_at dksX0_crowdOf_0 17 rfl rfl)
theorem dX0_crowdOf_18 : decode cX0_crowdOf 18 = .ok (.istore 6, 2) := dk_54 6 (dk_at dksX0_crowdOf_0 18 rfl rfl)
theorem dX0_crowdOf_20 : decode cX0_crowdOf 20 = .ok (.iload 6, 2) := dk_21 6 (dk_at dksX0_crowdOf_0 20 rfl rfl)
theorem dX0_crowdOf_22 : decode cX0_crowdOf 22 = .ok (.bipush 8, 2) := dk_16 8 (dk_at dksX0_crowdOf_0 22 rfl rfl)
theorem dX0_crowdOf_24 : decode cX0_crowdOf 24 = .ok (.if_icmp .ge 38, 3) := dk_162 0 38 (dk_at dksX0_crowdOf_1 0 rfl rfl)
theorem dX0_crowdOf_27 : decode cX0_crowdOf 27 = .ok (.aload_n 0, 1) := dk_42 (dk_at dksX0_crowdOf_1 3 rfl rfl)
theorem dX0_crowdOf_28 : decode cX0_crowdOf 28 = .ok (.iload 5, 2) := dk_21 5 (dk_at dksX0_crowdOf_1 4 rfl rfl)
theorem dX0_crowdOf_30 : decode cX0_crowdOf 30 = .ok (.iload 6, 2) := dk_21 6 (dk_at dksX0_crowdOf_1 6 rfl rfl)
theorem dX0_crowdOf_32 : decode cX0_crowdOf 32 = .ok (.invokevirtual 302, 3) := dk_182 1 46 (dk_at dksX0_crowdOf_1 8 rfl rfl)
theorem dX0_crowdOf_35 : decode cX0_crowdOf 35 = .ok (.iload 4, 2) := dk_21 4 (dk_at dksX0_crowdOf_1 11 rfl rfl)
theorem dX0_crowdOf_37 : decode cX0_crowdOf 37 = .ok (.if_icmp .le 19, 3) := dk_164 0 19 (dk_at dksX0_crowdOf_1 13 rfl rfl)
theorem dX0_crowdOf_40 : decode cX0_crowdOf 40 = .ok (.iload 5, 2) := dk_21 5 (dk_at dksX0_crowdOf_1 16 rfl rfl)
theorem dX0_crowdOf_42 : decode cX0_crowdOf 42 = .ok (.istore_n 2, 1) := dk_61 (dk_at dksX0_crowdOf_1 18 rfl rfl)
theorem dX0_crowdOf_43 : decode cX0_crowdOf 43 = .ok (.iload 6, 2) := dk_21 6 (dk_at dksX0_crowdOf_1 19 rfl rfl)
theorem dX0_crowdOf_45 : decode cX0_crowdOf 45 = .ok (.istore_n 3, 1) := dk_62 (dk_at dksX0_crowdOf_1 21 rfl rfl)
theorem dX0_crowdOf_46 : decode cX0_crowdOf 46 = .ok (.aload_n 0, 1) := dk_42 (dk_at dksX0_crowdOf_1 22 rfl rfl)
theorem dX0_crowdOf_47 : decode cX0_crowdOf 47 = .ok (.iload 5, 2) := dk_21 5 (dk_at dksX0_crowdOf_2 0 rfl rfl)
theorem dX0_crowdOf_49 : decode cX0_crowdOf 49 = .ok (.iload 6, 2) := dk_21 6 (dk_at dksX0_crowdOf_2 2 rfl rfl)
theorem dX0_crowdOf_51 : decode cX0_crowdOf 51 = .ok (.invokevirtual 302, 3) := dk_182 1 46 (dk_at dksX0_crowdOf_2 4 rfl rfl)
theorem dX0_crowdOf_54 : decode cX0_crowdOf 54 = .ok (.istore 4, 2) := dk_54 4 (dk_at dksX0_crowdOf_2 7 rfl rfl)
theorem dX0_crowdOf_56 : decode cX0_crowdOf 56 = .ok (.iinc 6 1, 3) := dk_132 6 1 (dk_at dksX0_crowdOf_2 9 rfl rfl)
theorem dX0_crowdOf_59 : decode cX0_crowdOf 59 = .ok (.goto (-39), 3) := dk_167 255 217 (dk_at dksX0_crowdOf_2 12 rfl rfl)
theorem dX0_crowdOf_62 : decode cX0_crowdOf 62 = .ok (.iinc 5 1, 3) := dk_132 5 1 (dk_at dksX0_crowdOf_2 15 rfl rfl)
theorem dX0_crowdOf_65 : decode cX0_crowdOf 65 = .ok (.goto (-55), 3) := dk_167 255 201 (dk_at dksX0_crowdOf_2 18 rfl rfl)
theorem dX0_crowdOf_68 : decode cX0_crowdOf 68 = .ok (.iload_n 1, 1) := dk_27 (dk_at dksX0_crowdOf_2 21 rfl rfl)
theorem dX0_crowdOf_69 : decode cX0_crowdOf 69 = .ok (.ifCond .ne 7, 3) := dk_154 0 7 (dk_at dksX0_crowdOf_3 0 rfl rfl)
theorem dX0_crowdOf_72 : decode cX0_crowdOf 72 = .ok (.iload_n 2, 1) := dk_28 (dk_at dksX0_crowdOf_3 3 rfl rfl)
theorem dX0_crowdOf_73 : decode cX0_crowdOf 73 = .ok (.goto 14, 3) := dk_167 0 14 (dk_at dksX0_crowdOf_3 4 rfl rfl)
theorem dX0_crowdOf_76 : decode cX0_crowdOf 76 = .ok (.iload_n 1, 1) := dk_27 (dk_at dksX0_crowdOf_3 7 rfl rfl)
theorem dX0_crowdOf_77 : decode cX0_crowdOf 77 = .ok (.iconst 1, 1) := dk_4 (dk_at dksX0_crowdOf_3 8 rfl rfl)
theorem dX0_crowdOf_78 : decode cX0_crowdOf 78 = .ok (.if_icmp .ne 7, 3) := dk_160 0 7 (dk_at dksX0_crowdOf_3 9 rfl rfl)
theorem dX0_crowdOf_81 : decode cX0_crowdOf 81 = .ok (.iload_n 3, 1) := dk_29 (dk_at dksX0_crowdOf_3 12 rfl rfl)
theorem dX0_crowdOf_82 : decode cX0_crowdOf 82 = .ok (.goto 5, 3) := dk_167 0 5 (dk_at dksX0_crowdOf_3 13 rfl rfl)
theorem dX0_crowdOf_85 : decode cX0_crowdOf 85 = .ok (.iload 4, 2) := dk_21 4 (dk_at dksX0_crowdOf_3 16 rfl rfl)
theorem dX0_crowdOf_87 : decode cX0_crowdOf 87 = .ok (.ireturn, 1) := dk_172 (dk_at dksX0_crowdOf_3 18 rfl rfl)
abbrev cX0_likeness : ByteArray := prog_1_method_55_code
def yX0_likeness : MethodName := ⟨RX0, "likeness", "(II)I"⟩
def dkwX0_likeness_1 : List UInt8 := [16, 254, 172]
abbrev dktX0_likeness_1 : List UInt8 := dkwX0_likeness_1 ++ []
def dkwX0_likeness_0 : List UInt8 := [42, 27, 182, 0, 186, 153, 0, 19, 28, 184, 0, 107, 153, 0, 12, 42, 27, 28, 182, 1, 52, 167, 0, 5]
abbrev dktX0_likeness_0 : List UInt8 := dkwX0_likeness_0 ++ dktX0_likeness_1
theorem dksX0_likeness_0 : cX0_likeness.data.toList.drop 0 = dktX0_likeness_0 := by decide +kernel
theorem dksX0_likeness_1 : cX0_likeness.data.toList.drop 24 = dktX0_likeness_1 := dk_seg dksX0_likeness_0 24 rfl rfl
theorem dX0_likeness_0 : decode cX0_likeness 0 = .ok (.aload_n 0, 1) := dk_42 (dk_at dksX0_likeness_0 0 rfl rfl)
theorem dX0_likeness_1 : decode cX0_likeness 1 = .ok (.iload_n 1, 1) := dk_27 (dk_at dksX0_likeness_0 1 rfl rfl)
theorem dX0_likeness_2 : decode cX0_likeness 2 = .ok (.invokevirtual 186, 3) := dk_182 0 186 (dk_at dksX0_likeness_0 2 rfl rfl)
theorem dX0_likeness_5 : decode cX0_likeness 5 = .ok (.ifCond .eq 19, 3) := dk_153 0 19 (dk_at dksX0_likeness_0 5 rfl rfl)
theorem dX0_likeness_8 : decode cX0_likeness 8 = .ok (.iload_n 2, 1) := dk_28 (dk_at dksX0_likeness_0 8 rfl rfl)
theorem dX0_likeness_9 : decode cX0_likeness 9 = .ok (.invokestatic 107, 3) := dk_184 0 107 (dk_at dksX0_likeness_0 9 rfl rfl)
theorem dX0_likeness_12 : decode cX0_likeness 12 = .ok (.ifCond .eq 12, 3) := dk_153 0 12 (dk_at dksX0_likeness_0 12 rfl rfl)
theorem dX0_likeness_15 : decode cX0_likeness 15 = .ok (.aload_n 0, 1) := dk_42 (dk_at dksX0_likeness_0 15 rfl rfl)
theorem dX0_likeness_16 : decode cX0_likeness 16 = .ok (.iload_n 1, 1) := dk_27 (dk_at dksX0_likeness_0 16 rfl rfl)
theorem dX0_likeness_17 : decode cX0_likeness 17 = .ok (.iload_n 2, 1) := dk_28 (dk_at dksX0_likeness_0 17 rfl rfl)
theorem dX0_likeness_18 : decode cX0_likeness 18 = .ok (.invokevirtual 308, 3) := dk_182 1 52 (dk_at dksX0_likeness_0 18 rfl rfl)
theorem dX0_likeness_21 : decode cX0_likeness 21 = .ok (.goto 5, 3) := dk_167 0 5 (dk_at dksX0_likeness_0 21 rfl rfl)
theorem dX0_likeness_24 : decode cX0_likeness 24 = .ok (.bipush (-2), 2) := dk_16 254 (dk_at dksX0_likeness_1 0 rfl rfl)
theorem dX0_likeness_26 : decode cX0_likeness 26 = .ok (.ireturn, 1) := dk_172 (dk_at dksX0_likeness_1 2 rfl rfl)
abbrev cX0_likenessOf : ByteArray := prog_1_method_54_code
def yX0_likenessOf : MethodName := ⟨RX0, "likenessOf", "(II)I"⟩
def dkwX0_likenessOf_3 : List UInt8 := [42, 45, 182, 0, 219, 104, 45, 180, 0, 183, 184, 0, 211, 108, 96, 172]
abbrev dktX0_likenessOf_3 : List UInt8 := dkwX0_likenessOf_3 ++ []
def dkwX0_likenessOf_2 : List UInt8 := [45, 182, 0, 250, 153, 0, 7, 7, 167, 0, 4, 3, 21, 4, 153, 0, 7, 6, 167, 0, 4, 3, 96, 6]
abbrev dktX0_likenessOf_2 : List UInt8 := dkwX0_likenessOf_2 ++ dktX0_likenessOf_3
def dkwX0_likenessOf_1 : List UInt8 := [154, 0, 16, 42, 180, 0, 20, 28, 46, 45, 180, 0, 178, 160, 0, 7, 4, 167, 0, 4, 3, 54, 4, 42]
abbrev dktX0_likenessOf_1 : List UInt8 := dkwX0_likenessOf_1 ++ dktX0_likenessOf_2
def dkwX0_likenessOf_0 : List UInt8 := [42, 27, 182, 0, 168, 78, 42, 45, 28, 182, 0, 238, 154, 0, 6, 16, 253, 172, 42, 45, 182, 0, 207]
abbrev dktX0_likenessOf_0 : List UInt8 := dkwX0_likenessOf_0 ++ dktX0_likenessOf_1
theorem dksX0_likenessOf_0 : cX0_likenessOf.data.toList.drop 0 = dktX0_likenessOf_0 := by decide +kernel
theorem dksX0_likenessOf_1 : cX0_likenessOf.data.toList.drop 23 = dktX0_likenessOf_1 := dk_seg dksX0_likenessOf_0 23 rfl rfl
theorem dksX0_likenessOf_2 : cX0_likenessOf.data.toList.drop 47 = dktX0_likenessOf_2 := dk_seg dksX0_likenessOf_1 24 rfl rfl
theorem dksX0_likenessOf_3 : cX0_likenessOf.data.toList.drop 71 = dktX0_likenessOf_3 := dk_seg dksX0_likenessOf_2 24 rfl rfl
theorem dX0_likenessOf_0 : decode cX0_likenessOf 0 = .ok (.aload_n 0, 1) := dk_42 (dk_at dksX0_likenessOf_0 0 rfl rfl)
theorem dX0_likenessOf_1 : decode cX0_likenessOf 1 = .ok (.iload_n 1, 1) := dk_27 (dk_at dksX0_likenessOf_0 1 rfl rfl)
theorem dX0_likenessOf_2 : decode cX0_likenessOf 2 = .ok (.invokevirtual 168, 3) := dk_182 0 168 (dk_at dksX0_likenessOf_0 2 rfl rfl)
theorem dX0_likenessOf_5 : decode cX0_likenessOf 5 = .ok (.astore_n 3, 1) := dk_78 (dk_at dksX0_likenessOf_0 5 rfl rfl)
theorem dX0_likenessOf_6 : decode cX0_likenessOf 6 = .ok (.aload_n 0, 1) := dk_42 (dk_at dksX0_likenessOf_0 6 rfl rfl)
theorem dX0_likenessOf_7 : decode cX0_likenessOf 7 = .ok (.aload_n 3, 1) := dk_45 (dk_at dksX0_likenessOf_0 7 rfl rfl)
theorem dX0_likenessOf_8 : decode cX0_likenessOf 8 = .ok (.iload_n 2, 1) := dk_28 (dk_at dksX0_likenessOf_0 8 rfl rfl)
theorem dX0_likenessOf_9 : decode cX0_likenessOf 9 = .ok (.invokevirtual 238, 3) := dk_182 0 238 (dk_at dksX0_likenessOf_0 9 rfl rfl)
theorem dX0_likenessOf_12 : decode cX0_likenessOf 12 = .ok (.ifCond .ne 6, 3) := dk_154 0 6 (dk_at dksX0_likenessOf_0 12 rfl rfl)
theorem dX0_likenessOf_15 : decode cX0_likenessOf 15 = .ok (.bipush (-3), 2) := dk_16 253 (dk_at dksX0_likenessOf_0 15 rfl rfl)
theorem dX0_likenessOf_17 : decode cX0_likenessOf 17 = .ok (.ireturn, 1) := dk_172 (dk_at dksX0_likenessOf_0 17 rfl rfl)
theorem dX0_likenessOf_18 : decode cX0_likenessOf 18 = .ok (.aload_n 0, 1) := dk_42 (dk_at dksX0_likenessOf_0 18 rfl rfl)
theorem dX0_likenessOf_19 : decode cX0_likenessOf 19 = .ok (.aload_n 3, 1) := dk_45 (dk_at dksX0_likenessOf_0 19 rfl rfl)
theorem dX0_likenessOf_20 : decode cX0_likenessOf 20 = .ok (.invokevirtual 207, 3) := dk_182 0 207 (dk_at dksX0_likenessOf_0 20 rfl rfl)
theorem dX0_likenessOf_23 : decode cX0_likenessOf 23 = .ok (.ifCond .ne 16, 3) := dk_154 0 16 (dk_at dksX0_likenessOf_1 0 rfl rfl)
theorem dX0_likenessOf_26 : decode cX0_likenessOf 26 = .ok (.aload_n 0, 1) := dk_42 (dk_at dksX0_likenessOf_1 3 rfl rfl)
theorem dX0_likenessOf_27 : decode cX0_likenessOf 27 = .ok (.getfield 20, 3) := dk_180 0 20 (dk_at dksX0_likenessOf_1 4 rfl rfl)
theorem dX0_likenessOf_30 : decode cX0_likenessOf 30 = .ok (.iload_n 2, 1) := dk_28 (dk_at dksX0_likenessOf_1 7 rfl rfl)
theorem dX0_likenessOf_31 : decode cX0_likenessOf 31 = .ok (.iaload, 1) := dk_46 (dk_at dksX0_likenessOf_1 8 rfl rfl)
theorem dX0_likenessOf_32 : decode cX0_likenessOf 32 = .ok (.aload_n 3, 1) := dk_45 (dk_at dksX0_likenessOf_1 9 rfl rfl)
theorem dX0_likenessOf_33 : decode cX0_likenessOf 33 = .ok (.getfield 178, 3) := dk_180 0 178 (dk_at dksX0_likenessOf_1 10 rfl rfl)
theorem dX0_likenessOf_36 : decode cX0_likenessOf 36 = .ok (.if_icmp .ne 7, 3) := dk_160 0 7 (dk_at dksX0_likenessOf_1 13 rfl rfl)
theorem dX0_likenessOf_39 : decode cX0_likenessOf 39 = .ok (.iconst 1, 1) := dk_4 (dk_at dksX0_likenessOf_1 16 rfl rfl)
theorem dX0_likenessOf_40 : decode cX0_likenessOf 40 = .ok (.goto 4, 3) := dk_167 0 4 (dk_at dksX0_likenessOf_1 17 rfl rfl)
theorem dX0_likenessOf_43 : decode cX0_likenessOf 43 = .ok (.iconst 0, 1) := dk_3 (dk_at dksX0_likenessOf_1 20 rfl rfl)
theorem dX0_likenessOf_44 : decode cX0_likenessOf 44 = .ok (.istore 4, 2) := dk_54 4 (dk_at dksX0_likenessOf_1 21 rfl rfl)
theorem dX0_likenessOf_46 : decode cX0_likenessOf 46 = .ok (.aload_n 0, 1) := dk_42 (dk_at dksX0_likenessOf_1 23 rfl rfl)
theorem dX0_likenessOf_47 : decode cX0_likenessOf 47 = .ok (.aload_n 3, 1) := dk_45 (dk_at dksX0_likenessOf_2 0 rfl rfl)
theorem dX0_likenessOf_48 : decode cX0_likenessOf 48 = .ok (.invokevirtual 250, 3) := dk_182 0 250 (dk_at dksX0_likenessOf_2 1 rfl rfl)
theorem dX0_likenessOf_51 : decode cX0_likenessOf 51 = .ok (.ifCond .eq 7, 3) := dk_153 0 7 (dk_at dksX0_likenessOf_2 4 rfl rfl)
theorem dX0_likenessOf_54 : decode cX0_likenessOf 54 = .ok (.iconst 4, 1) := dk_7 (dk_at dksX0_likenessOf_2 7 rfl rfl)
theorem dX0_likenessOf_55 : decode cX0_likenessOf 55 = .ok (.goto 4, 3) := dk_167 0 4 (dk_at dksX0_likenessOf_2 8 rfl rfl)
theorem dX0_likenessOf_58 : decode cX0_likenessOf 58 = .ok (.iconst 0, 1) := dk_3 (dk_at dksX0_likenessOf_2 11 rfl rfl)
theorem dX0_likenessOf_59 : decode cX0_likenessOf 59 = .ok (.iload 4, 2) := dk_21 4 (dk_at dksX0_likenessOf_2 12 rfl rfl)
theorem dX0_likenessOf_61 : decode cX0_likenessOf 61 = .ok (.ifCond .eq 7, 3) := dk_153 0 7 (dk_at dksX0_likenessOf_2 14 rfl rfl)
theorem dX0_likenessOf_64 : decode cX0_likenessOf 64 = .ok (.iconst 3, 1) := dk_6 (dk_at dksX0_likenessOf_2 17 rfl rfl)
theorem dX0_likenessOf_65 : decode cX0_likenessOf 65 = .ok (.goto 4, 3) := dk_167 0 4 (dk_at dksX0_likenessOf_2 18 rfl rfl)
theorem dX0_likenessOf_68 : decode cX0_likenessOf 68 = .ok (.iconst 0, 1) := dk_3 (dk_at dksX0_likenessOf_2 21 rfl rfl)
theorem dX0_likenessOf_69 : decode cX0_likenessOf 69 = .ok (.iadd, 1) := dk_96 (dk_at dksX0_likenessOf_2 22 rfl rfl)
theorem dX0_likenessOf_70 : decode cX0_likenessOf 70 = .ok (.iconst 3, 1) := dk_6 (dk_at dksX0_likenessOf_2 23 rfl rfl)
theorem dX0_likenessOf_71 : decode cX0_likenessOf 71 = .ok (.aload_n 0, 1) := dk_42 (dk_at dksX0_likenessOf_3 0 rfl rfl)
theorem dX0_likenessOf_72 : decode cX0_likenessOf 72 = .ok (.aload_n 3, 1) := dk_45 (dk_at dksX0_likenessOf_3 1 rfl rfl)
theorem dX0_likenessOf_73 : decode cX0_likenessOf 73 = .ok (.invokevirtual 219, 3) := dk_182 0 219 (dk_at dksX0_likenessOf_3 2 rfl rfl)
theorem dX0_likenessOf_76 : decode cX0_likenessOf 76 = .ok (.imul, 1) := dk_104 (dk_at dksX0_likenessOf_3 5 rfl rfl)
theorem dX0_likenessOf_77 : decode cX0_likenessOf 77 = .ok (.aload_n 3, 1) := dk_45 (dk_at dksX0_likenessOf_3 6 rfl rfl)
theorem dX0_likenessOf_78 : decode cX0_likenessOf 78 = .ok (.getfield 183, 3) := dk_180 0 183 (dk_at dksX0_likenessOf_3 7 rfl rfl)
theorem dX0_likenessOf_81 : decode cX0_likenessOf 81 = .ok (.invokestatic 211, 3) := dk_184 0 211 (dk_at dksX0_likenessOf_3 10 rfl rfl)
theorem dX0_likenessOf_84 : decode cX0_likenessOf 84 = .ok (.idiv, 1) := dk_108 (dk_at dksX0_likenessOf_3 13 rfl rfl)
theorem dX0_likenessOf_85 : decode cX0_likenessOf 85 = .ok (.iadd, 1) := dk_96 (dk_at dksX0_likenessOf_3 14 rfl rfl)
theorem dX0_likenessOf_86 : decode cX0_likenessOf 86 = .ok (.ireturn, 1) := dk_172 (dk_at dksX0_likenessOf_3 15 rfl rfl)
abbrev cX0_odds : ByteArray := prog_1_method_59_code
def yX0_odds : MethodName := ⟨RX0, "odds", "(III)J"⟩
def dkwX0_odds_1 : List UInt8 := [28, 29, 182, 1, 69, 167, 0, 8, 16, 254, 184, 1, 59, 173]
abbrev dktX0_odds_1 : List UInt8 := dkwX0_odds_1 ++ []
def dkwX0_odds_0 : List UInt8 := [42, 27, 182, 0, 186, 153, 0, 27, 28, 184, 0, 107, 153, 0, 20, 29, 184, 0, 110, 153, 0, 13, 42, 27]
abbrev dktX0_odds_0 : List UInt8 := dkwX0_odds_0 ++ dktX0_odds_1
theorem dksX0_odds_0 : cX0_odds.data.toList.drop 0 = dktX0_odds_0 := by decide +kernel
theorem dksX0_odds_1 : cX0_odds.data.toList.drop 24 = dktX0_odds_1 := dk_seg dksX0_odds_0 24 rfl rfl
theorem dX0_odds_0 : decode cX0_odds 0 = .ok (.aload_n 0, 1) := dk_42 (dk_at dksX0_odds_0 0 rfl rfl)
theorem dX0_odds_1 : decode cX0_odds 1 = .ok (.iload_n 1, 1) := dk_27 (dk_at dksX0_odds_0 1 rfl rfl)
theorem dX0_odds_2 : decode cX0_odds 2 = .ok (.invokevirtual 186, 3) := dk_182 0 186 (dk_at dksX0_odds_0 2 rfl rfl)
theorem dX0_odds_5 : decode cX0_odds 5 = .ok (.ifCond .eq 27, 3) := dk_153 0 27 (dk_at dksX0_odds_0 5 rfl rfl)
theorem dX0_odds_8 : decode cX0_odds 8 = .ok (.iload_n 2, 1) := dk_28 (dk_at dksX0_odds_0 8 rfl rfl)
theorem dX0_odds_9 : decode cX0_odds 9 = .ok (.invokestatic 107, 3) := dk_184 0 107 (dk_at dksX0_odds_0 9 rfl rfl)
theorem dX0_odds_12 : decode cX0_odds 12 = .ok (.ifCond .eq 20, 3) := dk_153 0 20 (dk_at dksX0_odds_0 12 rfl rfl)
theorem dX0_odds_15 : decode cX0_odds 15 = .ok (.iload_n 3, 1) := dk_29 (dk_at dksX0_odds_0 15 rfl rfl)
theorem dX0_odds_16 : decode cX0_odds 16 = .ok (.invokestatic 110, 3) := dk_184 0 110 (dk_at dksX0_odds_0 16 rfl rfl)
theorem dX0_odds_19 : decode cX0_odds 19 = .ok (.ifCond .eq 13, 3) := dk_153 0 13 (dk_at dksX0_odds_0 19 rfl rfl)
theorem dX0_odds_22 : decode cX0_odds 22 = .ok (.aload_n 0, 1) := dk_42 (dk_at dksX0_odds_0 22 rfl rfl)
theorem dX0_odds_23 : decode cX0_odds 23 = .ok (.iload_n 1, 1) := dk_27 (dk_at dksX0_odds_0 23 rfl rfl)
theorem dX0_odds_24 : decode cX0_odds 24 = .ok (.iload_n 2, 1) := dk_28 (dk_at dksX0_odds_1 0 rfl rfl)
theorem dX0_odds_25 : decode cX0_odds 25 = .ok (.iload_n 3, 1) := dk_29 (dk_at dksX0_odds_1 1 rfl rfl)
theorem dX0_odds_26 : decode cX0_odds 26 = .ok (.invokevirtual 325, 3) := dk_182 1 69 (dk_at dksX0_odds_1 2 rfl rfl)
theorem dX0_odds_29 : decode cX0_odds 29 = .ok (.goto 8, 3) := dk_167 0 8 (dk_at dksX0_odds_1 5 rfl rfl)
theorem dX0_odds_32 : decode cX0_odds 32 = .ok (.bipush (-2), 2) := dk_16 254 (dk_at dksX0_odds_1 8 rfl rfl)
theorem dX0_odds_34 : decode cX0_odds 34 = .ok (.invokestatic 315, 3) := dk_184 1 59 (dk_at dksX0_odds_1 10 rfl rfl)
theorem dX0_odds_37 : decode cX0_odds 37 = .ok (.lreturn, 1) := dk_173 (dk_at dksX0_odds_1 13 rfl rfl)
abbrev cX0_oddsOf : ByteArray := prog_1_method_58_code
def yX0_oddsOf : MethodName := ⟨RX0, "oddsOf", "(III)J"⟩
def dkwX0_oddsOf_5 : List UInt8 := [184, 1, 65, 173]
abbrev dktX0_oddsOf_5 : List UInt8 := dkwX0_oddsOf_5 ++ []
def dkwX0_oddsOf_4 : List UInt8 := [105, 55, 4, 22, 6, 20, 1, 63, 105, 55, 6, 132, 9, 1, 167, 255, 207, 22, 4, 22, 6, 29]
abbrev dktX0_oddsOf_4 : List UInt8 := dkwX0_oddsOf_4 ++ dktX0_oddsOf_5
def dkwX0_oddsOf_3 : List UInt8 := [184, 0, 223, 153, 0, 32, 22, 4, 16, 16, 42, 180, 0, 14, 21, 9, 50, 180, 0, 104, 6, 46, 100, 133]
abbrev dktX0_oddsOf_3 : List UInt8 := dkwX0_oddsOf_3 ++ dktX0_oddsOf_4
def dkwX0_oddsOf_2 : List UInt8 := [182, 0, 168, 28, 182, 0, 230, 54, 8, 3, 54, 9, 21, 9, 16, 8, 162, 0, 48, 21, 8, 21, 9]
abbrev dktX0_oddsOf_2 : List UInt8 := dkwX0_oddsOf_2 ++ dktX0_oddsOf_3
def dkwX0_oddsOf_1 : List UInt8 := [55, 6, 42, 27, 28, 182, 1, 52, 42, 180, 0, 24, 6, 46, 161, 0, 7, 3, 167, 0, 13, 42, 42, 27]
abbrev dktX0_oddsOf_1 : List UInt8 := dkwX0_oddsOf_1 ++ dktX0_oddsOf_2
def dkwX0_oddsOf_0 : List UInt8 := [42, 42, 27, 182, 0, 168, 28, 182, 0, 238, 154, 0, 9, 16, 253, 184, 1, 59, 173, 10, 55, 4, 10]
abbrev dktX0_oddsOf_0 : List UInt8 := dkwX0_oddsOf_0 ++ dktX0_oddsOf_1
theorem dksX0_oddsOf_0 : cX0_oddsOf.data.toList.drop 0 = dktX0_oddsOf_0 := by decide +kernel
theorem dksX0_oddsOf_1 : cX0_oddsOf.data.toList.drop 23 = dktX0_oddsOf_1 := dk_seg dksX0_oddsOf_0 23 rfl rfl
theorem dksX0_oddsOf_2 : cX0_oddsOf.data.toList.drop 47 = dktX0_oddsOf_2 := dk_seg dksX0_oddsOf_1 24 rfl rfl
theorem dksX0_oddsOf_3 : cX0_oddsOf.data.toList.drop 70 = dktX0_oddsOf_3 := dk_seg dksX0_oddsOf_2 23 rfl rfl
theorem dksX0_oddsOf_4 : cX0_oddsOf.data.toList.drop 94 = dktX0_oddsOf_4 := dk_seg dksX0_oddsOf_3 24 rfl rfl
theorem dksX0_oddsOf_5 : cX0_oddsOf.data.toList.drop 116 = dktX0_oddsOf_5 := dk_seg dksX0_oddsOf_4 22 rfl rfl
theorem dX0_oddsOf_0 : decode cX0_oddsOf 0 = .ok (.aload_n 0, 1) := dk_42 (dk_at dksX0_oddsOf_0 0 rfl rfl)
theorem dX0_oddsOf_1 : decode cX0_oddsOf 1 = .ok (.aload_n 0, 1) := dk_42 (dk_at dksX0_oddsOf_0 1 rfl rfl)
theorem dX0_oddsOf_2 : decode cX0_oddsOf 2 = .ok (.iload_n 1, 1) := dk_27 (dk_at dksX0_oddsOf_0 2 rfl rfl)
theorem dX0_oddsOf_3 : decode cX0_oddsOf 3 = .ok (.invokevirtual 168, 3) := dk_182 0 168 (dk_at dksX0_oddsOf_0 3 rfl rfl)
theorem dX0_oddsOf_6 : decode cX0_oddsOf 6 = .ok (.iload_n 2, 1) := dk_28 (dk_at dksX0_oddsOf_0 6 rfl rfl)
theorem dX0_oddsOf_7 : decode cX0_oddsOf 7 = .ok (.invokevirtual 238, 3) := dk_182 0 238 (dk_at dksX0_oddsOf_0 7 rfl rfl)
theorem dX0_oddsOf_10 : decode cX0_oddsOf 10 = .ok (.ifCond .ne 9, 3) := dk_154 0 9 (dk_at dksX0_oddsOf_0 10 rfl rfl)
theorem dX0_oddsOf_13 : decode cX0_oddsOf 13 = .ok (.bipush (-3), 2) := dk_16 253 (dk_at dksX0_oddsOf_0 13 rfl rfl)
theorem dX0_oddsOf_15 : decode cX0_oddsOf 15 = .ok (.invokestatic 315, 3) := dk_184 1 59 (dk_at dksX0_oddsOf_0 15 rfl rfl)
theorem dX0_oddsOf_18 : decode cX0_oddsOf 18 = .ok (.lreturn, 1) := dk_173 (dk_at dksX0_oddsOf_0 18 rfl rfl)
theorem dX0_oddsOf_19 : decode cX0_oddsOf 19 = .ok (.lconst 1, 1) := dk_10 (dk_at dksX0_oddsOf_0 19 rfl rfl)
theorem dX0_oddsOf_20 : decode cX0_oddsOf 20 = .ok (.lstore 4, 2) := dk_55 4 (dk_at dksX0_oddsOf_0 20 rfl rfl)
theorem dX0_oddsOf_22 : decode cX0_oddsOf 22 = .ok (.lconst 1, 1) := dk_10 (dk_at dksX0_oddsOf_0 22 rfl rfl)
theorem dX0_oddsOf_23 : decode cX0_oddsOf 23 = .ok (.lstore 6, 2) := dk_55 6 (dk_at dksX0_oddsOf_1 0 rfl rfl)
theorem dX0_oddsOf_25 : decode cX0_oddsOf 25 = .ok (.aload_n 0, 1) := dk_42 (dk_at dksX0_oddsOf_1 2 rfl rfl)
theorem dX0_oddsOf_26 : decode cX0_oddsOf 26 = .ok (.iload_n 1, 1) := dk_27 (dk_at dksX0_oddsOf_1 3 rfl rfl)
theorem dX0_oddsOf_27 : decode cX0_oddsOf 27 = .ok (.iload_n 2, 1) := dk_28 (dk_at dksX0_oddsOf_1 4 rfl rfl)
theorem dX0_oddsOf_28 : decode cX0_oddsOf 28 = .ok (.invokevirtual 308, 3) := dk_182 1 52 (dk_at dksX0_oddsOf_1 5 rfl rfl)
theorem dX0_oddsOf_31 : decode cX0_oddsOf 31 = .ok (.aload_n 0, 1) := dk_42 (dk_at dksX0_oddsOf_1 8 rfl rfl)
theorem dX0_oddsOf_32 : decode cX0_oddsOf 32 = .ok (.getfield 24, 3) := dk_180 0 24 (dk_at dksX0_oddsOf_1 9 rfl rfl)
theorem dX0_oddsOf_35 : decode cX0_oddsOf 35 = .ok (.iconst 3, 1) := dk_6 (dk_at dksX0_oddsOf_1 12 rfl rfl)
theorem dX0_oddsOf_36 : decode cX0_oddsOf 36 = .ok (.iaload, 1) := dk_46 (dk_at dksX0_oddsOf_1 13 rfl rfl)
theorem dX0_oddsOf_37 : decode cX0_oddsOf 37 = .ok (.if_icmp .lt 7, 3) := dk_161 0 7 (dk_at dksX0_oddsOf_1 14 rfl rfl)
theorem dX0_oddsOf_40 : decode cX0_oddsOf 40 = .ok (.iconst 0, 1) := dk_3 (dk_at dksX0_oddsOf_1 17 rfl rfl)
theorem dX0_oddsOf_41 : decode cX0_oddsOf 41 = .ok (.goto 13, 3) := dk_167 0 13 (dk_at dksX0_oddsOf_1 18 rfl rfl)
theorem dX0_oddsOf_44 : decode cX0_oddsOf 44 = .ok (.aload_n 0, 1) := dk_42 (dk_at dksX0_oddsOf_1 21 rfl rfl)
theorem dX0_oddsOf_45 : decode cX0_oddsOf 45 = .ok (.aload_n 0, 1) := dk_42 (dk_at dksX0_oddsOf_1 22 rfl rfl)
theorem dX0_oddsOf_46 : decode cX0_oddsOf 46 = .ok (.iload_n 1, 1) := dk_27 (dk_at dksX0_oddsOf_1 23 rfl rfl)
theorem dX0_oddsOf_47 : decode cX0_oddsOf 47 = .ok (.invokevirtual 168, 3) := dk_182 0 168 (dk_at dksX0_oddsOf_2 0 rfl rfl)
theorem dX0_oddsOf_50 : decode cX0_oddsOf 50 = .ok (.iload_n 2, 1) := dk_28 (dk_at dksX0_oddsOf_2 3 rfl rfl)
theorem dX0_oddsOf_51 : decode cX0_oddsOf 51 = .ok (.invokevirtual 230, 3) := dk_182 0 230 (dk_at dksX0_oddsOf_2 4 rfl rfl)
theorem dX0_oddsOf_54 : decode cX0_oddsOf 54 = .ok (.istore 8, 2) := dk_54 8 (dk_at dksX0_oddsOf_2 7 rfl rfl)
theorem dX0_oddsOf_56 : decode cX0_oddsOf 56 = .ok (.iconst 0, 1) := dk_3 (dk_at dksX0_oddsOf_2 9 rfl rfl)
theorem dX0_oddsOf_57 : decode cX0_oddsOf 57 = .ok (.istore 9, 2) := dk_54 9 (dk_at dksX0_oddsOf_2 10 rfl rfl)
theorem dX0_oddsOf_59 : decode cX0_oddsOf 59 = .ok (.iload 9, 2) := dk_21 9 (dk_at dksX0_oddsOf_2 12 rfl rfl)
theorem dX0_oddsOf_61 : decode cX0_oddsOf 61 = .ok (.bipush 8, 2) := dk_16 8 (dk_at dksX0_oddsOf_2 14 rfl rfl)
theorem dX0_oddsOf_63 : decode cX0_oddsOf 63 = .ok (.if_icmp .ge 48, 3) := dk_162 0 48 (dk_at dksX0_oddsOf_2 16 rfl rfl)
theorem dX0_oddsOf_66 : decode cX0_oddsOf 66 = .ok (.iload 8, 2) := dk_21 8 (dk_at dksX0_oddsOf_2 19 rfl rfl)
theorem dX0_oddsOf_68 : decode cX0_oddsOf 68 = .ok (.iload 9, 2) := dk_21 9 (dk_at dksX0_oddsOf_2 21 rfl rfl)
theorem dX0_oddsOf_70 : decode cX0_oddsOf 70 = .ok (.invokestatic 223, 3) := dk_184 0 223 (dk_at dksX0_oddsOf_3 0 rfl rfl)
theorem dX0_oddsOf_73 : decode cX0_oddsOf 73 = .ok (.ifCond .eq 32, 3) := dk_153 0 32 (dk_at dksX0_oddsOf_3 3 rfl rfl)
theorem dX0_oddsOf_76 : decode cX0_oddsOf 76 = .ok (.lload 4, 2) := dk_22 4 (dk_at dksX0_oddsOf_3 6 rfl rfl)
theorem dX0_oddsOf_78 : decode cX0_oddsOf 78 = .ok (.bipush 16, 2) := dk_16 16 (dk_at dksX0_oddsOf_3 8 rfl rfl)
theorem dX0_oddsOf_80 : decode cX0_oddsOf 80 = .ok (.aload_n 0, 1) := dk_42 (dk_at dksX0_oddsOf_3 10 rfl rfl)
theorem dX0_oddsOf_81 : decode cX0_oddsOf 81 = .ok (.getfield 14, 3) := dk_180 0 14 (dk_at dksX0_oddsOf_3 11 rfl rfl)
theorem dX0_oddsOf_84 : decode cX0_oddsOf 84 = .ok (.iload 9, 2) := dk_21 9 (dk_at dksX0_oddsOf_3 14 rfl rfl)
theorem dX0_oddsOf_86 : decode cX0_oddsOf 86 = .ok (.aaload, 1) := dk_50 (dk_at dksX0_oddsOf_3 16 rfl rfl)
theorem dX0_oddsOf_87 : decode cX0_oddsOf 87 = .ok (.getfield 104, 3) := dk_180 0 104 (dk_at dksX0_oddsOf_3 17 rfl rfl)
theorem dX0_oddsOf_90 : decode cX0_oddsOf 90 = .ok (.iconst 3, 1) := dk_6 (dk_at dksX0_oddsOf_3 20 rfl rfl)
theorem dX0_oddsOf_91 : decode cX0_oddsOf 91 = .ok (.iaload, 1) := dk_46 (dk_at dksX0_oddsOf_3 21 rfl rfl)
theorem dX0_oddsOf_92 : decode cX0_oddsOf 92 = .ok (.isub, 1) := dk_100 (dk_at dksX0_oddsOf_3 22 rfl rfl)
theorem dX0_oddsOf_93 : decode cX0_oddsOf 93 = .ok (.i2l, 1) := dk_133 (dk_at dksX0_oddsOf_3 23 rfl rfl)
theorem dX0_oddsOf_94 : decode cX0_oddsOf 94 = .ok (.lmul, 1) := dk_105 (dk_at dksX0_oddsOf_4 0 rfl rfl)
theorem dX0_oddsOf_95 : decode cX0_oddsOf 95 = .ok (.lstore 4, 2) := dk_55 4 (dk_at dksX0_oddsOf_4 1 rfl rfl)
theorem dX0_oddsOf_97 : decode cX0_oddsOf 97 = .ok (.lload 6, 2) := dk_22 6 (dk_at dksX0_oddsOf_4 3 rfl rfl)
theorem dX0_oddsOf_99 : decode cX0_oddsOf 99 = .ok (.ldc2_w 319, 3) := dk_20 1 63 (dk_at dksX0_oddsOf_4 5 rfl rfl)
theorem dX0_oddsOf_102 : decode cX0_oddsOf 102 = .ok (.lmul, 1) := dk_105 (dk_at dksX0_oddsOf_4 8 rfl rfl)
theorem dX0_oddsOf_103 : decode cX0_oddsOf 103 = .ok (.lstore 6, 2) := dk_55 6 (dk_at dksX0_oddsOf_4 9 rfl rfl)
theorem dX0_oddsOf_105 : decode cX0_oddsOf 105 = .ok (.iinc 9 1, 3) := dk_132 9 1 (dk_at dksX0_oddsOf_4 11 rfl rfl)
theorem dX0_oddsOf_108 : decode cX0_oddsOf 108 = .ok (.goto (-49), 3) := dk_167 255 207 (dk_at dksX0_oddsOf_4 14 rfl rfl)
theorem dX0_oddsOf_111 : decode cX0_oddsOf 111 = .ok (.lload 4, 2) := dk_22 4 (dk_at dksX0_oddsOf_4 17 rfl rfl)
theorem dX0_oddsOf_113 : decode cX0_oddsOf 113 = .ok (.lload 6, 2) := dk_22 6 (dk_at dksX0_oddsOf_4 19 rfl rfl)
theorem dX0_oddsOf_115 : decode cX0_oddsOf 115 = .ok (.iload_n 3, 1) := dk_29 (dk_at dksX0_oddsOf_4 21 rfl rfl)
theorem dX0_oddsOf_116 : decode cX0_oddsOf 116 = .ok (.invokestatic 321, 3) := dk_184 1 65 (dk_at dksX0_oddsOf_5 0 rfl rfl)
theorem dX0_oddsOf_119 : decode cX0_oddsOf 119 = .ok (.lreturn, 1) := dk_173 (dk_at dksX0_oddsOf_5 3 rfl rfl)
abbrev cX0_no : ByteArray := prog_1_method_3_code
def yX0_no : MethodName := ⟨RX0, "no", "(I)J"⟩
def dkwX0_no_0 : List UInt8 := [20, 0, 82, 26, 133, 101, 173]
abbrev dktX0_no_0 : List UInt8 := dkwX0_no_0 ++ []
theorem dksX0_no_0 : cX0_no.data.toList.drop 0 = dktX0_no_0 := by decide +kernel
theorem dX0_no_0 : decode cX0_no 0 = .ok (.ldc2_w 82, 3) := dk_20 0 82 (dk_at dksX0_no_0 0 rfl rfl)
theorem dX0_no_3 : decode cX0_no 3 = .ok (.iload_n 0, 1) := dk_26 (dk_at dksX0_no_0 3 rfl rfl)
theorem dX0_no_4 : decode cX0_no 4 = .ok (.i2l, 1) := dk_133 (dk_at dksX0_no_0 4 rfl rfl)
theorem dX0_no_5 : decode cX0_no 5 = .ok (.lsub, 1) := dk_101 (dk_at dksX0_no_0 5 rfl rfl)
theorem dX0_no_6 : decode cX0_no 6 = .ok (.lreturn, 1) := dk_173 (dk_at dksX0_no_0 6 rfl rfl)
abbrev cX0_part : ByteArray := prog_1_method_57_code
def yX0_part : MethodName := ⟨RX0, "part", "(JJI)J"⟩
def dkwX0_part_0 : List UInt8 := [21, 4, 154, 0, 7, 30, 167, 0, 4, 32, 30, 32, 184, 1, 55, 109, 173]
abbrev dktX0_part_0 : List UInt8 := dkwX0_part_0 ++ []
theorem dksX0_part_0 : cX0_part.data.toList.drop 0 = dktX0_part_0 := by decide +kernel
theorem dX0_part_0 : decode cX0_part 0 = .ok (.iload 4, 2) := dk_21 4 (dk_at dksX0_part_0 0 rfl rfl)
theorem dX0_part_2 : decode cX0_part 2 = .ok (.ifCond .ne 7, 3) := dk_154 0 7 (dk_at dksX0_part_0 2 rfl rfl)
theorem dX0_part_5 : decode cX0_part 5 = .ok (.lload_n 0, 1) := dk_30 (dk_at dksX0_part_0 5 rfl rfl)
theorem dX0_part_6 : decode cX0_part 6 = .ok (.goto 4, 3) := dk_167 0 4 (dk_at dksX0_part_0 6 rfl rfl)
theorem dX0_part_9 : decode cX0_part 9 = .ok (.lload_n 2, 1) := dk_32 (dk_at dksX0_part_0 9 rfl rfl)
theorem dX0_part_10 : decode cX0_part 10 = .ok (.lload_n 0, 1) := dk_30 (dk_at dksX0_part_0 10 rfl rfl)
theorem dX0_part_11 : decode cX0_part 11 = .ok (.lload_n 2, 1) := dk_32 (dk_at dksX0_part_0 11 rfl rfl)
theorem dX0_part_12 : decode cX0_part 12 = .ok (.invokestatic 311, 3) := dk_184 1 55 (dk_at dksX0_part_0 12 rfl rfl)
theorem dX0_part_15 : decode cX0_part 15 = .ok (.ldiv, 1) := dk_109 (dk_at dksX0_part_0 15 rfl rfl)
theorem dX0_part_16 : decode cX0_part 16 = .ok (.lreturn, 1) := dk_173 (dk_at dksX0_part_0 16 rfl rfl)
abbrev cX0_divisor : ByteArray := prog_1_method_56_code
def yX0_divisor : MethodName := ⟨RX0, "divisor", "(JJ)J"⟩
def dkwX0_divisor_0 : List UInt8 := [32, 9, 148, 154, 0, 7, 30, 167, 0, 10, 32, 30, 32, 113, 184, 1, 55, 173]
abbrev dktX0_divisor_0 : List UInt8 := dkwX0_divisor_0 ++ []
theorem dksX0_divisor_0 : cX0_divisor.data.toList.drop 0 = dktX0_divisor_0 := by decide +kernel
theorem dX0_divisor_0 : decode cX0_divisor 0 = .ok (.lload_n 2, 1) := dk_32 (dk_at dksX0_divisor_0 0 rfl rfl)
theorem dX0_divisor_1 : decode cX0_divisor 1 = .ok (.lconst 0, 1) := dk_9 (dk_at dksX0_divisor_0 1 rfl rfl)
theorem dX0_divisor_2 : decode cX0_divisor 2 = .ok (.lcmp, 1) := dk_148 (dk_at dksX0_divisor_0 2 rfl rfl)
theorem dX0_divisor_3 : decode cX0_divisor 3 = .ok (.ifCond .ne 7, 3) := dk_154 0 7 (dk_at dksX0_divisor_0 3 rfl rfl)
theorem dX0_divisor_6 : decode cX0_divisor 6 = .ok (.lload_n 0, 1) := dk_30 (dk_at dksX0_divisor_0 6 rfl rfl)
theorem dX0_divisor_7 : decode cX0_divisor 7 = .ok (.goto 10, 3) := dk_167 0 10 (dk_at dksX0_divisor_0 7 rfl rfl)
theorem dX0_divisor_10 : decode cX0_divisor 10 = .ok (.lload_n 2, 1) := dk_32 (dk_at dksX0_divisor_0 10 rfl rfl)
theorem dX0_divisor_11 : decode cX0_divisor 11 = .ok (.lload_n 0, 1) := dk_30 (dk_at dksX0_divisor_0 11 rfl rfl)
theorem dX0_divisor_12 : decode cX0_divisor 12 = .ok (.lload_n 2, 1) := dk_32 (dk_at dksX0_divisor_0 12 rfl rfl)
theorem dX0_divisor_13 : decode cX0_divisor 13 = .ok (.lrem, 1) := dk_113 (dk_at dksX0_divisor_0 13 rfl rfl)
theorem dX0_divisor_14 : decode cX0_divisor 14 = .ok (.invokestatic 311, 3) := dk_184 1 55 (dk_at dksX0_divisor_0 14 rfl rfl)
theorem dX0_divisor_17 : decode cX0_divisor 17 = .ok (.lreturn, 1) := dk_173 (dk_at dksX0_divisor_0 17 rfl rfl)
abbrev cX0_seen : ByteArray := prog_1_method_60_code
def yX0_seen : MethodName := ⟨RX0, "seen", "(III)I"⟩
def dkwX0_seen_3 : List UInt8 := [4, 100, 172]
abbrev dktX0_seen_3 : List UInt8 := dkwX0_seen_3 ++ []
def dkwX0_seen_2 : List UInt8 := [180, 0, 68, 187, 1, 75, 89, 27, 28, 29, 183, 1, 77, 182, 1, 80, 87, 42, 180, 0, 68, 182, 0, 159]
abbrev dktX0_seen_2 : List UInt8 := dkwX0_seen_2 ++ dktX0_seen_3
def dkwX0_seen_1 : List UInt8 := [154, 0, 6, 16, 254, 172, 42, 180, 0, 68, 182, 0, 159, 16, 10, 160, 0, 6, 16, 252, 172, 42]
abbrev dktX0_seen_1 : List UInt8 := dkwX0_seen_1 ++ dktX0_seen_2
def dkwX0_seen_0 : List UInt8 := [27, 184, 0, 95, 153, 0, 22, 28, 133, 9, 20, 1, 73, 184, 0, 89, 153, 0, 10, 29, 184, 0, 107]
abbrev dktX0_seen_0 : List UInt8 := dkwX0_seen_0 ++ dktX0_seen_1
theorem dksX0_seen_0 : cX0_seen.data.toList.drop 0 = dktX0_seen_0 := by decide +kernel
theorem dksX0_seen_1 : cX0_seen.data.toList.drop 23 = dktX0_seen_1 := dk_seg dksX0_seen_0 23 rfl rfl
theorem dksX0_seen_2 : cX0_seen.data.toList.drop 45 = dktX0_seen_2 := dk_seg dksX0_seen_1 22 rfl rfl
theorem dksX0_seen_3 : cX0_seen.data.toList.drop 69 = dktX0_seen_3 := dk_seg dksX0_seen_2 24 rfl rfl
theorem dX0_seen_0 : decode cX0_seen 0 = .ok (.iload_n 1, 1) := dk_27 (dk_at dksX0_seen_0 0 rfl rfl)
theorem dX0_seen_1 : decode cX0_seen 1 = .ok (.invokestatic 95, 3) := dk_184 0 95 (dk_at dksX0_seen_0 1 rfl rfl)
theorem dX0_seen_4 : decode cX0_seen 4 = .ok (.ifCond .eq 22, 3) := dk_153 0 22 (dk_at dksX0_seen_0 4 rfl rfl)
theorem dX0_seen_7 : decode cX0_seen 7 = .ok (.iload_n 2, 1) := dk_28 (dk_at dksX0_seen_0 7 rfl rfl)
theorem dX0_seen_8 : decode cX0_seen 8 = .ok (.i2l, 1) := dk_133 (dk_at dksX0_seen_0 8 rfl rfl)
theorem dX0_seen_9 : decode cX0_seen 9 = .ok (.lconst 0, 1) := dk_9 (dk_at dksX0_seen_0 9 rfl rfl)
theorem dX0_seen_10 : decode cX0_seen 10 = .ok (.ldc2_w 329, 3) := dk_20 1 73 (dk_at dksX0_seen_0 10 rfl rfl)
theorem dX0_seen_13 : decode cX0_seen 13 = .ok (.invokestatic 89, 3) := dk_184 0 89 (dk_at dksX0_seen_0 13 rfl rfl)
theorem dX0_seen_16 : decode cX0_seen 16 = .ok (.ifCond .eq 10, 3) := dk_153 0 10 (dk_at dksX0_seen_0 16 rfl rfl)
theorem dX0_seen_19 : decode cX0_seen 19 = .ok (.iload_n 3, 1) := dk_29 (dk_at dksX0_seen_0 19 rfl rfl)
theorem dX0_seen_20 : decode cX0_seen 20 = .ok (.invokestatic 107, 3) := dk_184 0 107 (dk_at dksX0_seen_0 20 rfl rfl)
theorem dX0_seen_23 : decode cX0_seen 23 = .ok (.ifCond .ne 6, 3) := dk_154 0 6 (dk_at dksX0_seen_1 0 rfl rfl)
theorem dX0_seen_26 : decode cX0_seen 26 = .ok (.bipush (-2), 2) := dk_16 254 (dk_at dksX0_seen_1 3 rfl rfl)
theorem dX0_seen_28 : decode cX0_seen 28 = .ok (.ireturn, 1) := dk_172 (dk_at dksX0_seen_1 5 rfl rfl)
theorem dX0_seen_29 : decode cX0_seen 29 = .ok (.aload_n 0, 1) := dk_42 (dk_at dksX0_seen_1 6 rfl rfl)
theorem dX0_seen_30 : decode cX0_seen 30 = .ok (.getfield 68, 3) := dk_180 0 68 (dk_at dksX0_seen_1 7 rfl rfl)
theorem dX0_seen_33 : decode cX0_seen 33 = .ok (.invokevirtual 159, 3) := dk_182 0 159 (dk_at dksX0_seen_1 10 rfl rfl)
theorem dX0_seen_36 : decode cX0_seen 36 = .ok (.bipush 10, 2) := dk_16 10 (dk_at dksX0_seen_1 13 rfl rfl)
theorem dX0_seen_38 : decode cX0_seen 38 = .ok (.if_icmp .ne 6, 3) := dk_160 0 6 (dk_at dksX0_seen_1 15 rfl rfl)
theorem dX0_seen_41 : decode cX0_seen 41 = .ok (.bipush (-4), 2) := dk_16 252 (dk_at dksX0_seen_1 18 rfl rfl)
theorem dX0_seen_43 : decode cX0_seen 43 = .ok (.ireturn, 1) := dk_172 (dk_at dksX0_seen_1 20 rfl rfl)
theorem dX0_seen_44 : decode cX0_seen 44 = .ok (.aload_n 0, 1) := dk_42 (dk_at dksX0_seen_1 21 rfl rfl)
theorem dX0_seen_45 : decode cX0_seen 45 = .ok (.getfield 68, 3) := dk_180 0 68 (dk_at dksX0_seen_2 0 rfl rfl)
theorem dX0_seen_48 : decode cX0_seen 48 = .ok (.new 331, 3) := dk_187 1 75 (dk_at dksX0_seen_2 3 rfl rfl)
theorem dX0_seen_51 : decode cX0_seen 51 = .ok (.dup, 1) := dk_89 (dk_at dksX0_seen_2 6 rfl rfl)
theorem dX0_seen_52 : decode cX0_seen 52 = .ok (.iload_n 1, 1) := dk_27 (dk_at dksX0_seen_2 7 rfl rfl)
theorem dX0_seen_53 : decode cX0_seen 53 = .ok (.iload_n 2, 1) := dk_28 (dk_at dksX0_seen_2 8 rfl rfl)
theorem dX0_seen_54 : decode cX0_seen 54 = .ok (.iload_n 3, 1) := dk_29 (dk_at dksX0_seen_2 9 rfl rfl)
theorem dX0_seen_55 : decode cX0_seen 55 = .ok (.invokespecial 333, 3) := dk_183 1 77 (dk_at dksX0_seen_2 10 rfl rfl)
theorem dX0_seen_58 : decode cX0_seen 58 = .ok (.invokevirtual 336, 3) := dk_182 1 80 (dk_at dksX0_seen_2 13 rfl rfl)
theorem dX0_seen_61 : decode cX0_seen 61 = .ok (.pop, 1) := dk_87 (dk_at dksX0_seen_2 16 rfl rfl)
theorem dX0_seen_62 : decode cX0_seen 62 = .ok (.aload_n 0, 1) := dk_42 (dk_at dksX0_seen_2 17 rfl rfl)
theorem dX0_seen_63 : decode cX0_seen 63 = .ok (.getfield 68, 3) := dk_180 0 68 (dk_at dksX0_seen_2 18 rfl rfl)
theorem dX0_seen_66 : decode cX0_seen 66 = .ok (.invokevirtual 159, 3) := dk_182 0 159 (dk_at dksX0_seen_2 21 rfl rfl)
theorem dX0_seen_69 : decode cX0_seen 69 = .ok (.iconst 1, 1) := dk_4 (dk_at dksX0_seen_3 0 rfl rfl)
theorem dX0_seen_70 : decode cX0_seen 70 = .ok (.isub, 1) := dk_100 (dk_at dksX0_seen_3 1 rfl rfl)
theorem dX0_seen_71 : decode cX0_seen 71 = .ok (.ireturn, 1) := dk_172 (dk_at dksX0_seen_3 2 rfl rfl)
abbrev cX0_isFalse : ByteArray := prog_1_method_62_code
def yX0_isFalse : MethodName := ⟨RX0, "isFalse", "(II)I"⟩
def dkwX0_isFalse_2 : List UInt8 := [153, 0, 7, 4, 167, 0, 9, 3, 167, 0, 5, 16, 254, 172]
abbrev dktX0_isFalse_2 : List UInt8 := dkwX0_isFalse_2 ++ []
def dkwX0_isFalse_1 : List UInt8 := [180, 0, 68, 27, 182, 0, 160, 192, 1, 75, 42, 180, 0, 68, 28, 182, 0, 160, 192, 1, 75, 182, 1, 87]
abbrev dktX0_isFalse_1 : List UInt8 := dkwX0_isFalse_1 ++ dktX0_isFalse_2
def dkwX0_isFalse_0 : List UInt8 := [42, 27, 182, 1, 84, 153, 0, 52, 42, 28, 182, 1, 84, 153, 0, 44, 27, 28, 159, 0, 39, 42]
abbrev dktX0_isFalse_0 : List UInt8 := dkwX0_isFalse_0 ++ dktX0_isFalse_1
theorem dksX0_isFalse_0 : cX0_isFalse.data.toList.drop 0 = dktX0_isFalse_0 := by decide +kernel
theorem dksX0_isFalse_1 : cX0_isFalse.data.toList.drop 22 = dktX0_isFalse_1 := dk_seg dksX0_isFalse_0 22 rfl rfl
theorem dksX0_isFalse_2 : cX0_isFalse.data.toList.drop 46 = dktX0_isFalse_2 := dk_seg dksX0_isFalse_1 24 rfl rfl
theorem dX0_isFalse_0 : decode cX0_isFalse 0 = .ok (.aload_n 0, 1) := dk_42 (dk_at dksX0_isFalse_0 0 rfl rfl)
theorem dX0_isFalse_1 : decode cX0_isFalse 1 = .ok (.iload_n 1, 1) := dk_27 (dk_at dksX0_isFalse_0 1 rfl rfl)
theorem dX0_isFalse_2 : decode cX0_isFalse 2 = .ok (.invokevirtual 340, 3) := dk_182 1 84 (dk_at dksX0_isFalse_0 2 rfl rfl)
theorem dX0_isFalse_5 : decode cX0_isFalse 5 = .ok (.ifCond .eq 52, 3) := dk_153 0 52 (dk_at dksX0_isFalse_0 5 rfl rfl)
theorem dX0_isFalse_8 : decode cX0_isFalse 8 = .ok (.aload_n 0, 1) := dk_42 (dk_at dksX0_isFalse_0 8 rfl rfl)
theorem dX0_isFalse_9 : decode cX0_isFalse 9 = .ok (.iload_n 2, 1) := dk_28 (dk_at dksX0_isFalse_0 9 rfl rfl)
theorem dX0_isFalse_10 : decode cX0_isFalse 10 = .ok (.invokevirtual 340, 3) := dk_182 1 84 (dk_at dksX0_isFalse_0 10 rfl rfl)
theorem dX0_isFalse_13 : decode cX0_isFalse 13 = .ok (.ifCond .eq 44, 3) := dk_153 0 44 (dk_at dksX0_isFalse_0 13 rfl rfl)
theorem dX0_isFalse_16 : decode cX0_isFalse 16 = .ok (.iload_n 1, 1) := dk_27 (dk_at dksX0_isFalse_0 16 rfl rfl)
theorem dX0_isFalse_17 : decode cX0_isFalse 17 = .ok (.iload_n 2, 1) := dk_28 (dk_at dksX0_isFalse_0 17 rfl rfl)
theorem dX0_isFalse_18 : decode cX0_isFalse 18 = .ok (.if_icmp .eq 39, 3) := dk_159 0 39 (dk_at dksX0_isFalse_0 18 rfl rfl)
theorem dX0_isFalse_21 : decode cX0_isFalse 21 = .ok (.aload_n 0, 1) := dk_42 (dk_at dksX0_isFalse_0 21 rfl rfl)
theorem dX0_isFalse_22 : decode cX0_isFalse 22 = .ok (.getfield 68, 3) := dk_180 0 68 (dk_at dksX0_isFalse_1 0 rfl rfl)
theorem dX0_isFalse_25 : decode cX0_isFalse 25 = .ok (.iload_n 1, 1) := dk_27 (dk_at dksX0_isFalse_1 3 rfl rfl)
theorem dX0_isFalse_26 : decode cX0_isFalse 26 = .ok (.invokevirtual 160, 3) := dk_182 0 160 (dk_at dksX0_isFalse_1 4 rfl rfl)
theorem dX0_isFalse_29 : decode cX0_isFalse 29 = .ok (.checkcast 331, 3) := dk_192 1 75 (dk_at dksX0_isFalse_1 7 rfl rfl)
theorem dX0_isFalse_32 : decode cX0_isFalse 32 = .ok (.aload_n 0, 1) := dk_42 (dk_at dksX0_isFalse_1 10 rfl rfl)
theorem dX0_isFalse_33 : decode cX0_isFalse 33 = .ok (.getfield 68, 3) := dk_180 0 68 (dk_at dksX0_isFalse_1 11 rfl rfl)
theorem dX0_isFalse_36 : decode cX0_isFalse 36 = .ok (.iload_n 2, 1) := dk_28 (dk_at dksX0_isFalse_1 14 rfl rfl)
theorem dX0_isFalse_37 : decode cX0_isFalse 37 = .ok (.invokevirtual 160, 3) := dk_182 0 160 (dk_at dksX0_isFalse_1 15 rfl rfl)
theorem dX0_isFalse_40 : decode cX0_isFalse 40 = .ok (.checkcast 331, 3) := dk_192 1 75 (dk_at dksX0_isFalse_1 18 rfl rfl)
theorem dX0_isFalse_43 : decode cX0_isFalse 43 = .ok (.invokevirtual 343, 3) := dk_182 1 87 (dk_at dksX0_isFalse_1 21 rfl rfl)
theorem dX0_isFalse_46 : decode cX0_isFalse 46 = .ok (.ifCond .eq 7, 3) := dk_153 0 7 (dk_at dksX0_isFalse_2 0 rfl rfl)
theorem dX0_isFalse_49 : decode cX0_isFalse 49 = .ok (.iconst 1, 1) := dk_4 (dk_at dksX0_isFalse_2 3 rfl rfl)
theorem dX0_isFalse_50 : decode cX0_isFalse 50 = .ok (.goto 9, 3) := dk_167 0 9 (dk_at dksX0_isFalse_2 4 rfl rfl)
theorem dX0_isFalse_53 : decode cX0_isFalse 53 = .ok (.iconst 0, 1) := dk_3 (dk_at dksX0_isFalse_2 7 rfl rfl)
theorem dX0_isFalse_54 : decode cX0_isFalse 54 = .ok (.goto 5, 3) := dk_167 0 5 (dk_at dksX0_isFalse_2 8 rfl rfl)
theorem dX0_isFalse_57 : decode cX0_isFalse 57 = .ok (.bipush (-2), 2) := dk_16 254 (dk_at dksX0_isFalse_2 11 rfl rfl)
theorem dX0_isFalse_59 : decode cX0_isFalse 59 = .ok (.ireturn, 1) := dk_172 (dk_at dksX0_isFalse_2 13 rfl rfl)
abbrev cX0_isSight : ByteArray := prog_1_method_61_code
def yX0_isSight : MethodName := ⟨RX0, "isSight", "(I)Z"⟩
def dkwX0_isSight_0 : List UInt8 := [27, 133, 9, 42, 180, 0, 68, 182, 0, 159, 4, 100, 133, 184, 0, 89, 172]
abbrev dktX0_isSight_0 : List UInt8 := dkwX0_isSight_0 ++ []
theorem dksX0_isSight_0 : cX0_isSight.data.toList.drop 0 = dktX0_isSight_0 := by decide +kernel
theorem dX0_isSight_0 : decode cX0_isSight 0 = .ok (.iload_n 1, 1) := dk_27 (dk_at dksX0_isSight_0 0 rfl rfl)
theorem dX0_isSight_1 : decode cX0_isSight 1 = .ok (.i2l, 1) := dk_133 (dk_at dksX0_isSight_0 1 rfl rfl)
theorem dX0_isSight_2 : decode cX0_isSight 2 = .ok (.lconst 0, 1) := dk_9 (dk_at dksX0_isSight_0 2 rfl rfl)
theorem dX0_isSight_3 : decode cX0_isSight 3 = .ok (.aload_n 0, 1) := dk_42 (dk_at dksX0_isSight_0 3 rfl rfl)
theorem dX0_isSight_4 : decode cX0_isSight 4 = .ok (.getfield 68, 3) := dk_180 0 68 (dk_at dksX0_isSight_0 4 rfl rfl)
theorem dX0_isSight_7 : decode cX0_isSight 7 = .ok (.invokevirtual 159, 3) := dk_182 0 159 (dk_at dksX0_isSight_0 7 rfl rfl)
theorem dX0_isSight_10 : decode cX0_isSight 10 = .ok (.iconst 1, 1) := dk_4 (dk_at dksX0_isSight_0 10 rfl rfl)
theorem dX0_isSight_11 : decode cX0_isSight 11 = .ok (.isub, 1) := dk_100 (dk_at dksX0_isSight_0 11 rfl rfl)
theorem dX0_isSight_12 : decode cX0_isSight 12 = .ok (.i2l, 1) := dk_133 (dk_at dksX0_isSight_0 12 rfl rfl)
theorem dX0_isSight_13 : decode cX0_isSight 13 = .ok (.invokestatic 89, 3) := dk_184 0 89 (dk_at dksX0_isSight_0 13 rfl rfl)
theorem dX0_isSight_16 : decode cX0_isSight 16 = .ok (.ireturn, 1) := dk_172 (dk_at dksX0_isSight_0 16 rfl rfl)
abbrev cX0_hats : ByteArray := prog_1_method_65_code
def yX0_hats : MethodName := ⟨RX0, "hats", "(I)I"⟩
def dkwX0_hats_0 : List UInt8 := [27, 184, 0, 110, 153, 0, 11, 42, 27, 182, 1, 94, 167, 0, 5, 16, 254, 172]
abbrev dktX0_hats_0 : List UInt8 := dkwX0_hats_0 ++ []
theorem dksX0_hats_0 : cX0_hats.data.toList.drop 0 = dktX0_hats_0 := by decide +kernel
theorem dX0_hats_0 : decode cX0_hats 0 = .ok (.iload_n 1, 1) := dk_27 (dk_at dksX0_hats_0 0 rfl rfl)
theorem dX0_hats_1 : decode cX0_hats 1 = .ok (.invokestatic 110, 3) := dk_184 0 110 (dk_at dksX0_hats_0 1 rfl rfl)
theorem dX0_hats_4 : decode cX0_hats 4 = .ok (.ifCond .eq 11, 3) := dk_153 0 11 (dk_at dksX0_hats_0 4 rfl rfl)
theorem dX0_hats_7 : decode cX0_hats 7 = .ok (.aload_n 0, 1) := dk_42 (dk_at dksX0_hats_0 7 rfl rfl)
theorem dX0_hats_8 : decode cX0_hats 8 = .ok (.iload_n 1, 1) := dk_27 (dk_at dksX0_hats_0 8 rfl rfl)
theorem dX0_hats_9 : decode cX0_hats 9 = .ok (.invokevirtual 350, 3) := dk_182 1 94 (dk_at dksX0_hats_0 9 rfl rfl)
theorem dX0_hats_12 : decode cX0_hats 12 = .ok (.goto 5, 3) := dk_167 0 5 (dk_at dksX0_hats_0 12 rfl rfl)
theorem dX0_hats_15 : decode cX0_hats 15 = .ok (.bipush (-2), 2) := dk_16 254 (dk_at dksX0_hats_0 15 rfl rfl)
theorem dX0_hats_17 : decode cX0_hats 17 = .ok (.ireturn, 1) := dk_172 (dk_at dksX0_hats_0 17 rfl rfl)
abbrev cX0_hatsOf : ByteArray := prog_1_method_64_code
def yX0_hatsOf : MethodName := ⟨RX0, "hatsOf", "(I)I"⟩
def dkwX0_hatsOf_3 : List UInt8 := [184, 0, 211, 167, 0, 4, 28, 172]
abbrev dktX0_hatsOf_3 : List UInt8 := dkwX0_hatsOf_3 ++ []
def dkwX0_hatsOf_2 : List UInt8 := [182, 1, 91, 153, 0, 7, 29, 167, 0, 4, 28, 61, 132, 3, 1, 167, 255, 198, 27, 154, 0, 10, 28]
abbrev dktX0_hatsOf_2 : List UInt8 := dkwX0_hatsOf_2 ++ dktX0_hatsOf_3
def dkwX0_hatsOf_1 : List UInt8 := [184, 0, 211, 28, 184, 0, 211, 162, 0, 7, 4, 167, 0, 4, 3, 54, 4, 21, 4, 153, 0, 15, 42, 29]
abbrev dktX0_hatsOf_1 : List UInt8 := dkwX0_hatsOf_1 ++ dktX0_hatsOf_2
def dkwX0_hatsOf_0 : List UInt8 := [2, 61, 3, 62, 29, 4, 42, 180, 0, 68, 182, 0, 159, 120, 162, 0, 51, 28, 2, 159, 0, 14, 29]
abbrev dktX0_hatsOf_0 : List UInt8 := dkwX0_hatsOf_0 ++ dktX0_hatsOf_1
theorem dksX0_hatsOf_0 : cX0_hatsOf.data.toList.drop 0 = dktX0_hatsOf_0 := by decide +kernel
theorem dksX0_hatsOf_1 : cX0_hatsOf.data.toList.drop 23 = dktX0_hatsOf_1 := dk_seg dksX0_hatsOf_0 23 rfl rfl
theorem dksX0_hatsOf_2 : cX0_hatsOf.data.toList.drop 47 = dktX0_hatsOf_2 := dk_seg dksX0_hatsOf_1 24 rfl rfl
theorem dksX0_hatsOf_3 : cX0_hatsOf.data.toList.drop 70 = dktX0_hatsOf_3 := dk_seg dksX0_hatsOf_2 23 rfl rfl
theorem dX0_hatsOf_0 : decode cX0_hatsOf 0 = .ok (.iconst (-1), 1) := dk_2 (dk_at dksX0_hatsOf_0 0 rfl rfl)
theorem dX0_hatsOf_1 : decode cX0_hatsOf 1 = .ok (.istore_n 2, 1) := dk_61 (dk_at dksX0_hatsOf_0 1 rfl rfl)
theorem dX0_hatsOf_2 : decode cX0_hatsOf 2 = .ok (.iconst 0, 1) := dk_3 (dk_at dksX0_hatsOf_0 2 rfl rfl)
theorem dX0_hatsOf_3 : decode cX0_hatsOf 3 = .ok (.istore_n 3, 1) := dk_62 (dk_at dksX0_hatsOf_0 3 rfl rfl)
theorem dX0_hatsOf_4 : decode cX0_hatsOf 4 = .ok (.iload_n 3, 1) := dk_29 (dk_at dksX0_hatsOf_0 4 rfl rfl)
theorem dX0_hatsOf_5 : decode cX0_hatsOf 5 = .ok (.iconst 1, 1) := dk_4 (dk_at dksX0_hatsOf_0 5 rfl rfl)
theorem dX0_hatsOf_6 : decode cX0_hatsOf 6 = .ok (.aload_n 0, 1) := dk_42 (dk_at dksX0_hatsOf_0 6 rfl rfl)
theorem dX0_hatsOf_7 : decode cX0_hatsOf 7 = .ok (.getfield 68, 3) := dk_180 0 68 (dk_at dksX0_hatsOf_0 7 rfl rfl)
theorem dX0_hatsOf_10 : decode cX0_hatsOf 10 = .ok (.invokevirtual 159, 3) := dk_182 0 159 (dk_at dksX0_hatsOf_0 10 rfl rfl)
theorem dX0_hatsOf_13 : decode cX0_hatsOf 13 = .ok (.ishl, 1) := dk_120 (dk_at dksX0_hatsOf_0 13 rfl rfl)
theorem dX0_hatsOf_14 : decode cX0_hatsOf 14 = .ok (.if_icmp .ge 51, 3) := dk_162 0 51 (dk_at dksX0_hatsOf_0 14 rfl rfl)
theorem dX0_hatsOf_17 : decode cX0_hatsOf 17 = .ok (.iload_n 2, 1) := dk_28 (dk_at dksX0_hatsOf_0 17 rfl rfl)
theorem dX0_hatsOf_18 : decode cX0_hatsOf 18 = .ok (.iconst (-1), 1) := dk_2 (dk_at dksX0_hatsOf_0 18 rfl rfl)
theorem dX0_hatsOf_19 : decode cX0_hatsOf 19 = .ok (.if_icmp .eq 14, 3) := dk_159 0 14 (dk_at dksX0_hatsOf_0 19 rfl rfl)
theorem dX0_hatsOf_22 : decode cX0_hatsOf 22 = .ok (.iload_n 3, 1) := dk_29 (dk_at dksX0_hatsOf_0 22 rfl rfl)
theorem dX0_hatsOf_23 : decode cX0_hatsOf 23 = .ok (.invokestatic 211, 3) := dk_184 0 211 (dk_at dksX0_hatsOf_1 0 rfl rfl)
theorem dX0_hatsOf_26 : decode cX0_hatsOf 26 = .ok (.iload_n 2, 1) := dk_28 (dk_at dksX0_hatsOf_1 3 rfl rfl)
theorem dX0_hatsOf_27 : decode cX0_hatsOf 27 = .ok (.invokestatic 211, 3) := dk_184 0 211 (dk_at dksX0_hatsOf_1 4 rfl rfl)
theorem dX0_hatsOf_30 : decode cX0_hatsOf 30 = .ok (.if_icmp .ge 7, 3) := dk_162 0 7 (dk_at dksX0_hatsOf_1 7 rfl rfl)
theorem dX0_hatsOf_33 : decode cX0_hatsOf 33 = .ok (.iconst 1, 1) := dk_4 (dk_at dksX0_hatsOf_1 10 rfl rfl)
theorem dX0_hatsOf_34 : decode cX0_hatsOf 34 = .ok (.goto 4, 3) := dk_167 0 4 (dk_at dksX0_hatsOf_1 11 rfl rfl)
theorem dX0_hatsOf_37 : decode cX0_hatsOf 37 = .ok (.iconst 0, 1) := dk_3 (dk_at dksX0_hatsOf_1 14 rfl rfl)
theorem dX0_hatsOf_38 : decode cX0_hatsOf 38 = .ok (.istore 4, 2) := dk_54 4 (dk_at dksX0_hatsOf_1 15 rfl rfl)
theorem dX0_hatsOf_40 : decode cX0_hatsOf 40 = .ok (.iload 4, 2) := dk_21 4 (dk_at dksX0_hatsOf_1 17 rfl rfl)
theorem dX0_hatsOf_42 : decode cX0_hatsOf 42 = .ok (.ifCond .eq 15, 3) := dk_153 0 15 (dk_at dksX0_hatsOf_1 19 rfl rfl)
theorem dX0_hatsOf_45 : decode cX0_hatsOf 45 = .ok (.aload_n 0, 1) := dk_42 (dk_at dksX0_hatsOf_1 22 rfl rfl)
theorem dX0_hatsOf_46 : decode cX0_hatsOf 46 = .ok (.iload_n 3, 1) := dk_29 (dk_at dksX0_hatsOf_1 23 rfl rfl)
theorem dX0_hatsOf_47 : decode cX0_hatsOf 47 = .ok (.invokevirtual 347, 3) := dk_182 1 91 (dk_at dksX0_hatsOf_2 0 rfl rfl)
theorem dX0_hatsOf_50 : decode cX0_hatsOf 50 = .ok (.ifCond .eq 7, 3) := dk_153 0 7 (dk_at dksX0_hatsOf_2 3 rfl rfl)
theorem dX0_hatsOf_53 : decode cX0_hatsOf 53 = .ok (.iload_n 3, 1) := dk_29 (dk_at dksX0_hatsOf_2 6 rfl rfl)
theorem dX0_hatsOf_54 : decode cX0_hatsOf 54 = .ok (.goto 4, 3) := dk_167 0 4 (dk_at dksX0_hatsOf_2 7 rfl rfl)
theorem dX0_hatsOf_57 : decode cX0_hatsOf 57 = .ok (.iload_n 2, 1) := dk_28 (dk_at dksX0_hatsOf_2 10 rfl rfl)
theorem dX0_hatsOf_58 : decode cX0_hatsOf 58 = .ok (.istore_n 2, 1) := dk_61 (dk_at dksX0_hatsOf_2 11 rfl rfl)
theorem dX0_hatsOf_59 : decode cX0_hatsOf 59 = .ok (.iinc 3 1, 3) := dk_132 3 1 (dk_at dksX0_hatsOf_2 12 rfl rfl)
theorem dX0_hatsOf_62 : decode cX0_hatsOf 62 = .ok (.goto (-58), 3) := dk_167 255 198 (dk_at dksX0_hatsOf_2 15 rfl rfl)
theorem dX0_hatsOf_65 : decode cX0_hatsOf 65 = .ok (.iload_n 1, 1) := dk_27 (dk_at dksX0_hatsOf_2 18 rfl rfl)
theorem dX0_hatsOf_66 : decode cX0_hatsOf 66 = .ok (.ifCond .ne 10, 3) := dk_154 0 10 (dk_at dksX0_hatsOf_2 19 rfl rfl)
theorem dX0_hatsOf_69 : decode cX0_hatsOf 69 = .ok (.iload_n 2, 1) := dk_28 (dk_at dksX0_hatsOf_2 22 rfl rfl)
theorem dX0_hatsOf_70 : decode cX0_hatsOf 70 = .ok (.invokestatic 211, 3) := dk_184 0 211 (dk_at dksX0_hatsOf_3 0 rfl rfl)
theorem dX0_hatsOf_73 : decode cX0_hatsOf 73 = .ok (.goto 4, 3) := dk_167 0 4 (dk_at dksX0_hatsOf_3 3 rfl rfl)
theorem dX0_hatsOf_76 : decode cX0_hatsOf 76 = .ok (.iload_n 2, 1) := dk_28 (dk_at dksX0_hatsOf_3 6 rfl rfl)
theorem dX0_hatsOf_77 : decode cX0_hatsOf 77 = .ok (.ireturn, 1) := dk_172 (dk_at dksX0_hatsOf_3 7 rfl rfl)
abbrev cX0_isClean : ByteArray := prog_1_method_63_code
def yX0_isClean : MethodName := ⟨RX0, "isClean", "(I)Z"⟩
def dkwX0_isClean_3 : List UInt8 := [4, 167, 0, 4, 3, 126, 61, 132, 4, 1, 167, 255, 193, 132, 3, 1, 167, 255, 173, 28, 172]
abbrev dktX0_isClean_3 : List UInt8 := dkwX0_isClean_3 ++ []
def dkwX0_isClean_2 : List UInt8 := [182, 0, 160, 192, 1, 75, 42, 180, 0, 68, 21, 4, 182, 0, 160, 192, 1, 75, 182, 1, 87, 154, 0, 7]
abbrev dktX0_isClean_2 : List UInt8 := dkwX0_isClean_2 ++ dktX0_isClean_3
def dkwX0_isClean_1 : List UInt8 := [28, 27, 29, 184, 0, 223, 154, 0, 41, 27, 21, 4, 184, 0, 223, 154, 0, 32, 42, 180, 0, 68, 29]
abbrev dktX0_isClean_1 : List UInt8 := dkwX0_isClean_1 ++ dktX0_isClean_2
def dkwX0_isClean_0 : List UInt8 := [4, 61, 3, 62, 29, 42, 180, 0, 68, 182, 0, 159, 162, 0, 78, 3, 54, 4, 21, 4, 29, 162, 0, 63]
abbrev dktX0_isClean_0 : List UInt8 := dkwX0_isClean_0 ++ dktX0_isClean_1
theorem dksX0_isClean_0 : cX0_isClean.data.toList.drop 0 = dktX0_isClean_0 := by decide +kernel
theorem dksX0_isClean_1 : cX0_isClean.data.toList.drop 24 = dktX0_isClean_1 := dk_seg dksX0_isClean_0 24 rfl rfl
theorem dksX0_isClean_2 : cX0_isClean.data.toList.drop 47 = dktX0_isClean_2 := dk_seg dksX0_isClean_1 23 rfl rfl
theorem dksX0_isClean_3 : cX0_isClean.data.toList.drop 71 = dktX0_isClean_3 := dk_seg dksX0_isClean_2 24 rfl rfl
theorem dX0_isClean_0 : decode cX0_isClean 0 = .ok (.iconst 1, 1) := dk_4 (dk_at dksX0_isClean_0 0 rfl rfl)
theorem dX0_isClean_1 : decode cX0_isClean 1 = .ok (.istore_n 2, 1) := dk_61 (dk_at dksX0_isClean_0 1 rfl rfl)
theorem dX0_isClean_2 : decode cX0_isClean 2 = .ok (.iconst 0, 1) := dk_3 (dk_at dksX0_isClean_0 2 rfl rfl)
theorem dX0_isClean_3 : decode cX0_isClean 3 = .ok (.istore_n 3, 1) := dk_62 (dk_at dksX0_isClean_0 3 rfl rfl)
theorem dX0_isClean_4 : decode cX0_isClean 4 = .ok (.iload_n 3, 1) := dk_29 (dk_at dksX0_isClean_0 4 rfl rfl)
theorem dX0_isClean_5 : decode cX0_isClean 5 = .ok (.aload_n 0, 1) := dk_42 (dk_at dksX0_isClean_0 5 rfl rfl)
theorem dX0_isClean_6 : decode cX0_isClean 6 = .ok (.getfield 68, 3) := dk_180 0 68 (dk_at dksX0_isClean_0 6 rfl rfl)
theorem dX0_isClean_9 : decode cX0_isClean 9 = .ok (.invokevirtual 159, 3) := dk_182 0 159 (dk_at dksX0_isClean_0 9 rfl rfl)
theorem dX0_isClean_12 : decode cX0_isClean 12 = .ok (.if_icmp .ge 78, 3) := dk_162 0 78 (dk_at dksX0_isClean_0 12 rfl rfl)
theorem dX0_isClean_15 : decode cX0_isClean 15 = .ok (.iconst 0, 1) := dk_3 (dk_at dksX0_isClean_0 15 rfl rfl)
theorem dX0_isClean_16 : decode cX0_isClean 16 = .ok (.istore 4, 2) := dk_54 4 (dk_at dksX0_isClean_0 16 rfl rfl)
theorem dX0_isClean_18 : decode cX0_isClean 18 = .ok (.iload 4, 2) := dk_21 4 (dk_at dksX0_isClean_0 18 rfl rfl)
theorem dX0_isClean_20 : decode cX0_isClean 20 = .ok (.iload_n 3, 1) := dk_29 (dk_at dksX0_isClean_0 20 rfl rfl)
theorem dX0_isClean_21 : decode cX0_isClean 21 = .ok (.if_icmp .ge 63, 3) := dk_162 0 63 (dk_at dksX0_isClean_0 21 rfl rfl)
theorem dX0_isClean_24 : decode cX0_isClean 24 = .ok (.iload_n 2, 1) := dk_28 (dk_at dksX0_isClean_1 0 rfl rfl)
theorem dX0_isClean_25 : decode cX0_isClean 25 = .ok (.iload_n 1, 1) := dk_27 (dk_at dksX0_isClean_1 1 rfl rfl)
theorem dX0_isClean_26 : decode cX0_isClean 26 = .ok (.iload_n 3, 1) := dk_29 (dk_at dksX0_isClean_1 2 rfl rfl)
theorem dX0_isClean_27 : decode cX0_isClean 27 = .ok (.invokestatic 223, 3) := dk_184 0 223 (dk_at dksX0_isClean_1 3 rfl rfl)
theorem dX0_isClean_30 : decode cX0_isClean 30 = .ok (.ifCond .ne 41, 3) := dk_154 0 41 (dk_at dksX0_isClean_1 6 rfl rfl)
theorem dX0_isClean_33 : decode cX0_isClean 33 = .ok (.iload_n 1, 1) := dk_27 (dk_at dksX0_isClean_1 9 rfl rfl)
theorem dX0_isClean_34 : decode cX0_isClean 34 = .ok (.iload 4, 2) := dk_21 4 (dk_at dksX0_isClean_1 10 rfl rfl)
theorem dX0_isClean_36 : decode cX0_isClean 36 = .ok (.invokestatic 223, 3) := dk_184 0 223 (dk_at dksX0_isClean_1 12 rfl rfl)
theorem dX0_isClean_39 : decode cX0_isClean 39 = .ok (.ifCond .ne 32, 3) := dk_154 0 32 (dk_at dksX0_isClean_1 15 rfl rfl)
theorem dX0_isClean_42 : decode cX0_isClean 42 = .ok (.aload_n 0, 1) := dk_42 (dk_at dksX0_isClean_1 18 rfl rfl)
theorem dX0_isClean_43 : decode cX0_isClean 43 = .ok (.getfield 68, 3) := dk_180 0 68 (dk_at dksX0_isClean_1 19 rfl rfl)
theorem dX0_isClean_46 : decode cX0_isClean 46 = .ok (.iload_n 3, 1) := dk_29 (dk_at dksX0_isClean_1 22 rfl rfl)
theorem dX0_isClean_47 : decode cX0_isClean 47 = .ok (.invokevirtual 160, 3) := dk_182 0 160 (dk_at dksX0_isClean_2 0 rfl rfl)
theorem dX0_isClean_50 : decode cX0_isClean 50 = .ok (.checkcast 331, 3) := dk_192 1 75 (dk_at dksX0_isClean_2 3 rfl rfl)
theorem dX0_isClean_53 : decode cX0_isClean 53 = .ok (.aload_n 0, 1) := dk_42 (dk_at dksX0_isClean_2 6 rfl rfl)
theorem dX0_isClean_54 : decode cX0_isClean 54 = .ok (.getfield 68, 3) := dk_180 0 68 (dk_at dksX0_isClean_2 7 rfl rfl)
theorem dX0_isClean_57 : decode cX0_isClean 57 = .ok (.iload 4, 2) := dk_21 4 (dk_at dksX0_isClean_2 10 rfl rfl)
theorem dX0_isClean_59 : decode cX0_isClean 59 = .ok (.invokevirtual 160, 3) := dk_182 0 160 (dk_at dksX0_isClean_2 12 rfl rfl)
theorem dX0_isClean_62 : decode cX0_isClean 62 = .ok (.checkcast 331, 3) := dk_192 1 75 (dk_at dksX0_isClean_2 15 rfl rfl)
theorem dX0_isClean_65 : decode cX0_isClean 65 = .ok (.invokevirtual 343, 3) := dk_182 1 87 (dk_at dksX0_isClean_2 18 rfl rfl)
theorem dX0_isClean_68 : decode cX0_isClean 68 = .ok (.ifCond .ne 7, 3) := dk_154 0 7 (dk_at dksX0_isClean_2 21 rfl rfl)
theorem dX0_isClean_71 : decode cX0_isClean 71 = .ok (.iconst 1, 1) := dk_4 (dk_at dksX0_isClean_3 0 rfl rfl)
theorem dX0_isClean_72 : decode cX0_isClean 72 = .ok (.goto 4, 3) := dk_167 0 4 (dk_at dksX0_isClean_3 1 rfl rfl)
theorem dX0_isClean_75 : decode cX0_isClean 75 = .ok (.iconst 0, 1) := dk_3 (dk_at dksX0_isClean_3 4 rfl rfl)
theorem dX0_isClean_76 : decode cX0_isClean 76 = .ok (.iand, 1) := dk_126 (dk_at dksX0_isClean_3 5 rfl rfl)
theorem dX0_isClean_77 : decode cX0_isClean 77 = .ok (.istore_n 2, 1) := dk_61 (dk_at dksX0_isClean_3 6 rfl rfl)
theorem dX0_isClean_78 : decode cX0_isClean 78 = .ok (.iinc 4 1, 3) := dk_132 4 1 (dk_at dksX0_isClean_3 7 rfl rfl)
theorem dX0_isClean_81 : decode cX0_isClean 81 = .ok (.goto (-63), 3) := dk_167 255 193 (dk_at dksX0_isClean_3 10 rfl rfl)
theorem dX0_isClean_84 : decode cX0_isClean 84 = .ok (.iinc 3 1, 3) := dk_132 3 1 (dk_at dksX0_isClean_3 13 rfl rfl)
theorem dX0_isClean_87 : decode cX0_isClean 87 = .ok (.goto (-83), 3) := dk_167 255 173 (dk_at dksX0_isClean_3 16 rfl rfl)
theorem dX0_isClean_90 : decode cX0_isClean 90 = .ok (.iload_n 2, 1) := dk_28 (dk_at dksX0_isClean_3 19 rfl rfl)
theorem dX0_isClean_91 : decode cX0_isClean 91 = .ok (.ireturn, 1) := dk_172 (dk_at dksX0_isClean_3 20 rfl rfl)
abbrev cX0_after : ByteArray := prog_1_method_67_code
def yX0_after : MethodName := ⟨RX0, "after", "(II)I"⟩
def dkwX0_after_2 : List UInt8 := [79, 89, 4, 28, 79, 182, 1, 80, 87, 42, 180, 0, 72, 182, 0, 159, 172]
abbrev dktX0_after_2 : List UInt8 := dkwX0_after_2 ++ []
def dkwX0_after_1 : List UInt8 := [180, 0, 72, 182, 0, 159, 16, 10, 160, 0, 6, 16, 252, 172, 42, 180, 0, 72, 5, 188, 10, 89, 3, 27]
abbrev dktX0_after_1 : List UInt8 := dkwX0_after_1 ++ dktX0_after_2
def dkwX0_after_0 : List UInt8 := [27, 184, 1, 97, 153, 0, 15, 28, 184, 1, 97, 153, 0, 8, 27, 28, 160, 0, 6, 16, 254, 172, 42]
abbrev dktX0_after_0 : List UInt8 := dkwX0_after_0 ++ dktX0_after_1
theorem dksX0_after_0 : cX0_after.data.toList.drop 0 = dktX0_after_0 := by decide +kernel
theorem dksX0_after_1 : cX0_after.data.toList.drop 23 = dktX0_after_1 := dk_seg dksX0_after_0 23 rfl rfl
theorem dksX0_after_2 : cX0_after.data.toList.drop 47 = dktX0_after_2 := dk_seg dksX0_after_1 24 rfl rfl
theorem dX0_after_0 : decode cX0_after 0 = .ok (.iload_n 1, 1) := dk_27 (dk_at dksX0_after_0 0 rfl rfl)
theorem dX0_after_1 : decode cX0_after 1 = .ok (.invokestatic 353, 3) := dk_184 1 97 (dk_at dksX0_after_0 1 rfl rfl)
theorem dX0_after_4 : decode cX0_after 4 = .ok (.ifCond .eq 15, 3) := dk_153 0 15 (dk_at dksX0_after_0 4 rfl rfl)
theorem dX0_after_7 : decode cX0_after 7 = .ok (.iload_n 2, 1) := dk_28 (dk_at dksX0_after_0 7 rfl rfl)
theorem dX0_after_8 : decode cX0_after 8 = .ok (.invokestatic 353, 3) := dk_184 1 97 (dk_at dksX0_after_0 8 rfl rfl)
theorem dX0_after_11 : decode cX0_after 11 = .ok (.ifCond .eq 8, 3) := dk_153 0 8 (dk_at dksX0_after_0 11 rfl rfl)
theorem dX0_after_14 : decode cX0_after 14 = .ok (.iload_n 1, 1) := dk_27 (dk_at dksX0_after_0 14 rfl rfl)
theorem dX0_after_15 : decode cX0_after 15 = .ok (.iload_n 2, 1) := dk_28 (dk_at dksX0_after_0 15 rfl rfl)
theorem dX0_after_16 : decode cX0_after 16 = .ok (.if_icmp .ne 6, 3) := dk_160 0 6 (dk_at dksX0_after_0 16 rfl rfl)
theorem dX0_after_19 : decode cX0_after 19 = .ok (.bipush (-2), 2) := dk_16 254 (dk_at dksX0_after_0 19 rfl rfl)
theorem dX0_after_21 : decode cX0_after 21 = .ok (.ireturn, 1) := dk_172 (dk_at dksX0_after_0 21 rfl rfl)
theorem dX0_after_22 : decode cX0_after 22 = .ok (.aload_n 0, 1) := dk_42 (dk_at dksX0_after_0 22 rfl rfl)
theorem dX0_after_23 : decode cX0_after 23 = .ok (.getfield 72, 3) := dk_180 0 72 (dk_at dksX0_after_1 0 rfl rfl)
theorem dX0_after_26 : decode cX0_after 26 = .ok (.invokevirtual 159, 3) := dk_182 0 159 (dk_at dksX0_after_1 3 rfl rfl)
theorem dX0_after_29 : decode cX0_after 29 = .ok (.bipush 10, 2) := dk_16 10 (dk_at dksX0_after_1 6 rfl rfl)
theorem dX0_after_31 : decode cX0_after 31 = .ok (.if_icmp .ne 6, 3) := dk_160 0 6 (dk_at dksX0_after_1 8 rfl rfl)
theorem dX0_after_34 : decode cX0_after 34 = .ok (.bipush (-4), 2) := dk_16 252 (dk_at dksX0_after_1 11 rfl rfl)
theorem dX0_after_36 : decode cX0_after 36 = .ok (.ireturn, 1) := dk_172 (dk_at dksX0_after_1 13 rfl rfl)
theorem dX0_after_37 : decode cX0_after 37 = .ok (.aload_n 0, 1) := dk_42 (dk_at dksX0_after_1 14 rfl rfl)
theorem dX0_after_38 : decode cX0_after 38 = .ok (.getfield 72, 3) := dk_180 0 72 (dk_at dksX0_after_1 15 rfl rfl)
theorem dX0_after_41 : decode cX0_after 41 = .ok (.iconst 2, 1) := dk_5 (dk_at dksX0_after_1 18 rfl rfl)
theorem dX0_after_42 : decode cX0_after 42 = .ok (.newarray .int, 2) := dk_188_10 (dk_at dksX0_after_1 19 rfl rfl)
theorem dX0_after_44 : decode cX0_after 44 = .ok (.dup, 1) := dk_89 (dk_at dksX0_after_1 21 rfl rfl)
theorem dX0_after_45 : decode cX0_after 45 = .ok (.iconst 0, 1) := dk_3 (dk_at dksX0_after_1 22 rfl rfl)
theorem dX0_after_46 : decode cX0_after 46 = .ok (.iload_n 1, 1) := dk_27 (dk_at dksX0_after_1 23 rfl rfl)
theorem dX0_after_47 : decode cX0_after 47 = .ok (.iastore, 1) := dk_79 (dk_at dksX0_after_2 0 rfl rfl)
theorem dX0_after_48 : decode cX0_after 48 = .ok (.dup, 1) := dk_89 (dk_at dksX0_after_2 1 rfl rfl)
theorem dX0_after_49 : decode cX0_after 49 = .ok (.iconst 1, 1) := dk_4 (dk_at dksX0_after_2 2 rfl rfl)
theorem dX0_after_50 : decode cX0_after 50 = .ok (.iload_n 2, 1) := dk_28 (dk_at dksX0_after_2 3 rfl rfl)
theorem dX0_after_51 : decode cX0_after 51 = .ok (.iastore, 1) := dk_79 (dk_at dksX0_after_2 4 rfl rfl)
theorem dX0_after_52 : decode cX0_after 52 = .ok (.invokevirtual 336, 3) := dk_182 1 80 (dk_at dksX0_after_2 5 rfl rfl)
theorem dX0_after_55 : decode cX0_after 55 = .ok (.pop, 1) := dk_87 (dk_at dksX0_after_2 8 rfl rfl)
theorem dX0_after_56 : decode cX0_after 56 = .ok (.aload_n 0, 1) := dk_42 (dk_at dksX0_after_2 9 rfl rfl)
theorem dX0_after_57 : decode cX0_after 57 = .ok (.getfield 72, 3) := dk_180 0 72 (dk_at dksX0_after_2 10 rfl rfl)
theorem dX0_after_60 : decode cX0_after 60 = .ok (.invokevirtual 159, 3) := dk_182 0 159 (dk_at dksX0_after_2 13 rfl rfl)
theorem dX0_after_63 : decode cX0_after 63 = .ok (.ireturn, 1) := dk_172 (dk_at dksX0_after_2 16 rfl rfl)
abbrev cX0_isAnyDeed : ByteArray := prog_1_method_66_code
def yX0_isAnyDeed : MethodName := ⟨RX0, "isAnyDeed", "(I)Z"⟩
def dkwX0_isAnyDeed_0 : List UInt8 := [26, 133, 9, 20, 0, 93, 184, 0, 89, 172]
abbrev dktX0_isAnyDeed_0 : List UInt8 := dkwX0_isAnyDeed_0 ++ []
theorem dksX0_isAnyDeed_0 : cX0_isAnyDeed.data.toList.drop 0 = dktX0_isAnyDeed_0 := by decide +kernel
theorem dX0_isAnyDeed_0 : decode cX0_isAnyDeed 0 = .ok (.iload_n 0, 1) := dk_26 (dk_at dksX0_isAnyDeed_0 0 rfl rfl)
theorem dX0_isAnyDeed_1 : decode cX0_isAnyDeed 1 = .ok (.i2l, 1) := dk_133 (dk_at dksX0_isAnyDeed_0 1 rfl rfl)
theorem dX0_isAnyDeed_2 : decode cX0_isAnyDeed 2 = .ok (.lconst 0, 1) := dk_9 (dk_at dksX0_isAnyDeed_0 2 rfl rfl)
theorem dX0_isAnyDeed_3 : decode cX0_isAnyDeed 3 = .ok (.ldc2_w 93, 3) := dk_20 0 93 (dk_at dksX0_isAnyDeed_0 3 rfl rfl)
theorem dX0_isAnyDeed_6 : decode cX0_isAnyDeed 6 = .ok (.invokestatic 89, 3) := dk_184 0 89 (dk_at dksX0_isAnyDeed_0 6 rfl rfl)
theorem dX0_isAnyDeed_9 : decode cX0_isAnyDeed 9 = .ok (.ireturn, 1) := dk_172 (dk_at dksX0_isAnyDeed_0 9 rfl rfl)
abbrev cX0_forget : ByteArray := prog_1_method_68_code
def yX0_forget : MethodName := ⟨RX0, "forget", "(I)I"⟩
def dkwX0_forget_2 : List UInt8 := [180, 0, 72, 182, 1, 100, 28, 172]
abbrev dktX0_forget_2 : List UInt8 := dkwX0_forget_2 ++ []
def dkwX0_forget_1 : List UInt8 := [42, 180, 0, 72, 182, 0, 159, 61, 27, 154, 0, 13, 42, 180, 0, 68, 182, 1, 100, 167, 0, 10, 42]
abbrev dktX0_forget_1 : List UInt8 := dkwX0_forget_1 ++ dktX0_forget_2
def dkwX0_forget_0 : List UInt8 := [27, 184, 0, 110, 154, 0, 6, 16, 254, 172, 27, 154, 0, 13, 42, 180, 0, 68, 182, 0, 159, 167, 0, 10]
abbrev dktX0_forget_0 : List UInt8 := dkwX0_forget_0 ++ dktX0_forget_1
theorem dksX0_forget_0 : cX0_forget.data.toList.drop 0 = dktX0_forget_0 := by decide +kernel
theorem dksX0_forget_1 : cX0_forget.data.toList.drop 24 = dktX0_forget_1 := dk_seg dksX0_forget_0 24 rfl rfl
theorem dksX0_forget_2 : cX0_forget.data.toList.drop 47 = dktX0_forget_2 := dk_seg dksX0_forget_1 23 rfl rfl
theorem dX0_forget_0 : decode cX0_forget 0 = .ok (.iload_n 1, 1) := dk_27 (dk_at dksX0_forget_0 0 rfl rfl)
theorem dX0_forget_1 : decode cX0_forget 1 = .ok (.invokestatic 110, 3) := dk_184 0 110 (dk_at dksX0_forget_0 1 rfl rfl)
theorem dX0_forget_4 : decode cX0_forget 4 = .ok (.ifCond .ne 6, 3) := dk_154 0 6 (dk_at dksX0_forget_0 4 rfl rfl)
theorem dX0_forget_7 : decode cX0_forget 7 = .ok (.bipush (-2), 2) := dk_16 254 (dk_at dksX0_forget_0 7 rfl rfl)
theorem dX0_forget_9 : decode cX0_forget 9 = .ok (.ireturn, 1) := dk_172 (dk_at dksX0_forget_0 9 rfl rfl)
theorem dX0_forget_10 : decode cX0_forget 10 = .ok (.iload_n 1, 1) := dk_27 (dk_at dksX0_forget_0 10 rfl rfl)
theorem dX0_forget_11 : decode cX0_forget 11 = .ok (.ifCond .ne 13, 3) := dk_154 0 13 (dk_at dksX0_forget_0 11 rfl rfl)
theorem dX0_forget_14 : decode cX0_forget 14 = .ok (.aload_n 0, 1) := dk_42 (dk_at dksX0_forget_0 14 rfl rfl)
theorem dX0_forget_15 : decode cX0_forget 15 = .ok (.getfield 68, 3) := dk_180 0 68 (dk_at dksX0_forget_0 15 rfl rfl)
theorem dX0_forget_18 : decode cX0_forget 18 = .ok (.invokevirtual 159, 3) := dk_182 0 159 (dk_at dksX0_forget_0 18 rfl rfl)
theorem dX0_forget_21 : decode cX0_forget 21 = .ok (.goto 10, 3) := dk_167 0 10 (dk_at dksX0_forget_0 21 rfl rfl)
theorem dX0_forget_24 : decode cX0_forget 24 = .ok (.aload_n 0, 1) := dk_42 (dk_at dksX0_forget_1 0 rfl rfl)
theorem dX0_forget_25 : decode cX0_forget 25 = .ok (.getfield 72, 3) := dk_180 0 72 (dk_at dksX0_forget_1 1 rfl rfl)
theorem dX0_forget_28 : decode cX0_forget 28 = .ok (.invokevirtual 159, 3) := dk_182 0 159 (dk_at dksX0_forget_1 4 rfl rfl)
theorem dX0_forget_31 : decode cX0_forget 31 = .ok (.istore_n 2, 1) := dk_61 (dk_at dksX0_forget_1 7 rfl rfl)
theorem dX0_forget_32 : decode cX0_forget 32 = .ok (.iload_n 1, 1) := dk_27 (dk_at dksX0_forget_1 8 rfl rfl)
theorem dX0_forget_33 : decode cX0_forget 33 = .ok (.ifCond .ne 13, 3) := dk_154 0 13 (dk_at dksX0_forget_1 9 rfl rfl)
theorem dX0_forget_36 : decode cX0_forget 36 = .ok (.aload_n 0, 1) := dk_42 (dk_at dksX0_forget_1 12 rfl rfl)
theorem dX0_forget_37 : decode cX0_forget 37 = .ok (.getfield 68, 3) := dk_180 0 68 (dk_at dksX0_forget_1 13 rfl rfl)
theorem dX0_forget_40 : decode cX0_forget 40 = .ok (.invokevirtual 356, 3) := dk_182 1 100 (dk_at dksX0_forget_1 16 rfl rfl)
theorem dX0_forget_43 : decode cX0_forget 43 = .ok (.goto 10, 3) := dk_167 0 10 (dk_at dksX0_forget_1 19 rfl rfl)
theorem dX0_forget_46 : decode cX0_forget 46 = .ok (.aload_n 0, 1) := dk_42 (dk_at dksX0_forget_1 22 rfl rfl)
theorem dX0_forget_47 : decode cX0_forget 47 = .ok (.getfield 72, 3) := dk_180 0 72 (dk_at dksX0_forget_2 0 rfl rfl)
theorem dX0_forget_50 : decode cX0_forget 50 = .ok (.invokevirtual 356, 3) := dk_182 1 100 (dk_at dksX0_forget_2 3 rfl rfl)
theorem dX0_forget_53 : decode cX0_forget 53 = .ok (.iload_n 2, 1) := dk_28 (dk_at dksX0_forget_2 6 rfl rfl)
theorem dX0_forget_54 : decode cX0_forget 54 = .ok (.ireturn, 1) := dk_172 (dk_at dksX0_forget_2 7 rfl rfl)
abbrev cX0_spared : ByteArray := prog_1_method_71_code
def yX0_spared : MethodName := ⟨RX0, "spared", "(I)I"⟩
def dkwX0_spared_1 : List UInt8 := [167, 0, 5, 16, 254, 172]
abbrev dktX0_spared_1 : List UInt8 := dkwX0_spared_1 ++ []
def dkwX0_spared_0 : List UInt8 := [27, 133, 9, 4, 42, 182, 0, 166, 120, 4, 100, 133, 184, 0, 89, 153, 0, 11, 42, 27, 182, 1, 107]
abbrev dktX0_spared_0 : List UInt8 := dkwX0_spared_0 ++ dktX0_spared_1
theorem dksX0_spared_0 : cX0_spared.data.toList.drop 0 = dktX0_spared_0 := by decide +kernel
theorem dksX0_spared_1 : cX0_spared.data.toList.drop 23 = dktX0_spared_1 := dk_seg dksX0_spared_0 23 rfl rfl
theorem dX0_spared_0 : decode cX0_spared 0 = .ok (.iload_n 1, 1) := dk_27 (dk_at dksX0_spared_0 0 rfl rfl)
theorem dX0_spared_1 : decode cX0_spared 1 = .ok (.i2l, 1) := dk_133 (dk_at dksX0_spared_0 1 rfl rfl)
theorem dX0_spared_2 : decode cX0_spared 2 = .ok (.lconst 0, 1) := dk_9 (dk_at dksX0_spared_0 2 rfl rfl)
theorem dX0_spared_3 : decode cX0_spared 3 = .ok (.iconst 1, 1) := dk_4 (dk_at dksX0_spared_0 3 rfl rfl)
theorem dX0_spared_4 : decode cX0_spared 4 = .ok (.aload_n 0, 1) := dk_42 (dk_at dksX0_spared_0 4 rfl rfl)
theorem dX0_spared_5 : decode cX0_spared 5 = .ok (.invokevirtual 166, 3) := dk_182 0 166 (dk_at dksX0_spared_0 5 rfl rfl)
theorem dX0_spared_8 : decode cX0_spared 8 = .ok (.ishl, 1) := dk_120 (dk_at dksX0_spared_0 8 rfl rfl)
theorem dX0_spared_9 : decode cX0_spared 9 = .ok (.iconst 1, 1) := dk_4 (dk_at dksX0_spared_0 9 rfl rfl)
theorem dX0_spared_10 : decode cX0_spared 10 = .ok (.isub, 1) := dk_100 (dk_at dksX0_spared_0 10 rfl rfl)
theorem dX0_spared_11 : decode cX0_spared 11 = .ok (.i2l, 1) := dk_133 (dk_at dksX0_spared_0 11 rfl rfl)
theorem dX0_spared_12 : decode cX0_spared 12 = .ok (.invokestatic 89, 3) := dk_184 0 89 (dk_at dksX0_spared_0 12 rfl rfl)
theorem dX0_spared_15 : decode cX0_spared 15 = .ok (.ifCond .eq 11, 3) := dk_153 0 11 (dk_at dksX0_spared_0 15 rfl rfl)
theorem dX0_spared_18 : decode cX0_spared 18 = .ok (.aload_n 0, 1) := dk_42 (dk_at dksX0_spared_0 18 rfl rfl)
theorem dX0_spared_19 : decode cX0_spared 19 = .ok (.iload_n 1, 1) := dk_27 (dk_at dksX0_spared_0 19 rfl rfl)
theorem dX0_spared_20 : decode cX0_spared 20 = .ok (.invokevirtual 363, 3) := dk_182 1 107 (dk_at dksX0_spared_0 20 rfl rfl)
theorem dX0_spared_23 : decode cX0_spared 23 = .ok (.goto 5, 3) := dk_167 0 5 (dk_at dksX0_spared_1 0 rfl rfl)
theorem dX0_spared_26 : decode cX0_spared 26 = .ok (.bipush (-2), 2) := dk_16 254 (dk_at dksX0_spared_1 3 rfl rfl)
theorem dX0_spared_28 : decode cX0_spared 28 = .ok (.ireturn, 1) := dk_172 (dk_at dksX0_spared_1 5 rfl rfl)
abbrev cX0_sparedOf : ByteArray := prog_1_method_70_code
def yX0_sparedOf : MethodName := ⟨RX0, "sparedOf", "(I)I"⟩
def dkwX0_sparedOf_0 : List UInt8 := [42, 42, 27, 182, 1, 104, 27, 2, 130, 126, 182, 1, 17, 172]
abbrev dktX0_sparedOf_0 : List UInt8 := dkwX0_sparedOf_0 ++ []
theorem dksX0_sparedOf_0 : cX0_sparedOf.data.toList.drop 0 = dktX0_sparedOf_0 := by decide +kernel
theorem dX0_sparedOf_0 : decode cX0_sparedOf 0 = .ok (.aload_n 0, 1) := dk_42 (dk_at dksX0_sparedOf_0 0 rfl rfl)
theorem dX0_sparedOf_1 : decode cX0_sparedOf 1 = .ok (.aload_n 0, 1) := dk_42 (dk_at dksX0_sparedOf_0 1 rfl rfl)
theorem dX0_sparedOf_2 : decode cX0_sparedOf 2 = .ok (.iload_n 1, 1) := dk_27 (dk_at dksX0_sparedOf_0 2 rfl rfl)
theorem dX0_sparedOf_3 : decode cX0_sparedOf 3 = .ok (.invokevirtual 360, 3) := dk_182 1 104 (dk_at dksX0_sparedOf_0 3 rfl rfl)
theorem dX0_sparedOf_6 : decode cX0_sparedOf 6 = .ok (.iload_n 1, 1) := dk_27 (dk_at dksX0_sparedOf_0 6 rfl rfl)
theorem dX0_sparedOf_7 : decode cX0_sparedOf 7 = .ok (.iconst (-1), 1) := dk_2 (dk_at dksX0_sparedOf_0 7 rfl rfl)
theorem dX0_sparedOf_8 : decode cX0_sparedOf 8 = .ok (.ixor, 1) := dk_130 (dk_at dksX0_sparedOf_0 8 rfl rfl)
theorem dX0_sparedOf_9 : decode cX0_sparedOf 9 = .ok (.iand, 1) := dk_126 (dk_at dksX0_sparedOf_0 9 rfl rfl)
theorem dX0_sparedOf_10 : decode cX0_sparedOf 10 = .ok (.invokevirtual 273, 3) := dk_182 1 17 (dk_at dksX0_sparedOf_0 10 rfl rfl)
theorem dX0_sparedOf_13 : decode cX0_sparedOf 13 = .ok (.ireturn, 1) := dk_172 (dk_at dksX0_sparedOf_0 13 rfl rfl)
abbrev cX0_reaches : ByteArray := prog_1_method_69_code
def yX0_reaches : MethodName := ⟨RX0, "reaches", "(I)I"⟩
def dkwX0_reaches_4 : List UInt8 := [132, 3, 1, 167, 255, 166, 28, 172]
abbrev dktX0_reaches_4 : List UInt8 := dkwX0_reaches_4 ++ []
def dkwX0_reaches_3 : List UInt8 := [182, 0, 186, 153, 0, 12, 4, 25, 5, 4, 46, 120, 167, 0, 4, 3, 128, 61, 132, 4, 1, 167, 255, 181]
abbrev dktX0_reaches_3 : List UInt8 := dkwX0_reaches_3 ++ dktX0_reaches_4
def dkwX0_reaches_2 : List UInt8 := [184, 0, 223, 153, 0, 34, 42, 25, 5, 3, 46, 182, 0, 186, 153, 0, 23, 42, 25, 5, 4, 46]
abbrev dktX0_reaches_2 : List UInt8 := dkwX0_reaches_2 ++ dktX0_reaches_3
def dkwX0_reaches_1 : List UInt8 := [162, 0, 69, 42, 180, 0, 72, 21, 4, 182, 0, 160, 192, 1, 103, 58, 5, 28, 28, 25, 5, 3, 46]
abbrev dktX0_reaches_1 : List UInt8 := dkwX0_reaches_1 ++ dktX0_reaches_2
def dkwX0_reaches_0 : List UInt8 := [27, 61, 3, 62, 29, 16, 8, 162, 0, 90, 3, 54, 4, 21, 4, 42, 180, 0, 72, 182, 0, 159]
abbrev dktX0_reaches_0 : List UInt8 := dkwX0_reaches_0 ++ dktX0_reaches_1
theorem dksX0_reaches_0 : cX0_reaches.data.toList.drop 0 = dktX0_reaches_0 := by decide +kernel
theorem dksX0_reaches_1 : cX0_reaches.data.toList.drop 22 = dktX0_reaches_1 := dk_seg dksX0_reaches_0 22 rfl rfl
theorem dksX0_reaches_2 : cX0_reaches.data.toList.drop 45 = dktX0_reaches_2 := dk_seg dksX0_reaches_1 23 rfl rfl
theorem dksX0_reaches_3 : cX0_reaches.data.toList.drop 67 = dktX0_reaches_3 := dk_seg dksX0_reaches_2 22 rfl rfl
theorem dksX0_reaches_4 : cX0_reaches.data.toList.drop 91 = dktX0_reaches_4 := dk_seg dksX0_reaches_3 24 rfl rfl
theorem dX0_reaches_0 : decode cX0_reaches 0 = .ok (.iload_n 1, 1) := dk_27 (dk_at dksX0_reaches_0 0 rfl rfl)
theorem dX0_reaches_1 : decode cX0_reaches 1 = .ok (.istore_n 2, 1) := dk_61 (dk_at dksX0_reaches_0 1 rfl rfl)
theorem dX0_reaches_2 : decode cX0_reaches 2 = .ok (.iconst 0, 1) := dk_3 (dk_at dksX0_reaches_0 2 rfl rfl)
theorem dX0_reaches_3 : decode cX0_reaches 3 = .ok (.istore_n 3, 1) := dk_62 (dk_at dksX0_reaches_0 3 rfl rfl)
theorem dX0_reaches_4 : decode cX0_reaches 4 = .ok (.iload_n 3, 1) := dk_29 (dk_at dksX0_reaches_0 4 rfl rfl)
theorem dX0_reaches_5 : decode cX0_reaches 5 = .ok (.bipush 8, 2) := dk_16 8 (dk_at dksX0_reaches_0 5 rfl rfl)
theorem dX0_reaches_7 : decode cX0_reaches 7 = .ok (.if_icmp .ge 90, 3) := dk_162 0 90 (dk_at dksX0_reaches_0 7 rfl rfl)
theorem dX0_reaches_10 : decode cX0_reaches 10 = .ok (.iconst 0, 1) := dk_3 (dk_at dksX0_reaches_0 10 rfl rfl)
theorem dX0_reaches_11 : decode cX0_reaches 11 = .ok (.istore 4, 2) := dk_54 4 (dk_at dksX0_reaches_0 11 rfl rfl)
theorem dX0_reaches_13 : decode cX0_reaches 13 = .ok (.iload 4, 2) := dk_21 4 (dk_at dksX0_reaches_0 13 rfl rfl)
theorem dX0_reaches_15 : decode cX0_reaches 15 = .ok (.aload_n 0, 1) := dk_42 (dk_at dksX0_reaches_0 15 rfl rfl)
theorem dX0_reaches_16 : decode cX0_reaches 16 = .ok (.getfield 72, 3) := dk_180 0 72 (dk_at dksX0_reaches_0 16 rfl rfl)
theorem dX0_reaches_19 : decode cX0_reaches 19 = .ok (.invokevirtual 159, 3) := dk_182 0 159 (dk_at dksX0_reaches_0 19 rfl rfl)
theorem dX0_reaches_22 : decode cX0_reaches 22 = .ok (.if_icmp .ge 69, 3) := dk_162 0 69 (dk_at dksX0_reaches_1 0 rfl rfl)
theorem dX0_reaches_25 : decode cX0_reaches 25 = .ok (.aload_n 0, 1) := dk_42 (dk_at dksX0_reaches_1 3 rfl rfl)
theorem dX0_reaches_26 : decode cX0_reaches 26 = .ok (.getfield 72, 3) := dk_180 0 72 (dk_at dksX0_reaches_1 4 rfl rfl)
theorem dX0_reaches_29 : decode cX0_reaches 29 = .ok (.iload 4, 2) := dk_21 4 (dk_at dksX0_reaches_1 7 rfl rfl)
theorem dX0_reaches_31 : decode cX0_reaches 31 = .ok (.invokevirtual 160, 3) := dk_182 0 160 (dk_at dksX0_reaches_1 9 rfl rfl)
theorem dX0_reaches_34 : decode cX0_reaches 34 = .ok (.checkcast 359, 3) := dk_192 1 103 (dk_at dksX0_reaches_1 12 rfl rfl)
theorem dX0_reaches_37 : decode cX0_reaches 37 = .ok (.astore 5, 2) := dk_58 5 (dk_at dksX0_reaches_1 15 rfl rfl)
theorem dX0_reaches_39 : decode cX0_reaches 39 = .ok (.iload_n 2, 1) := dk_28 (dk_at dksX0_reaches_1 17 rfl rfl)
theorem dX0_reaches_40 : decode cX0_reaches 40 = .ok (.iload_n 2, 1) := dk_28 (dk_at dksX0_reaches_1 18 rfl rfl)
theorem dX0_reaches_41 : decode cX0_reaches 41 = .ok (.aload 5, 2) := dk_25 5 (dk_at dksX0_reaches_1 19 rfl rfl)
theorem dX0_reaches_43 : decode cX0_reaches 43 = .ok (.iconst 0, 1) := dk_3 (dk_at dksX0_reaches_1 21 rfl rfl)
theorem dX0_reaches_44 : decode cX0_reaches 44 = .ok (.iaload, 1) := dk_46 (dk_at dksX0_reaches_1 22 rfl rfl)
theorem dX0_reaches_45 : decode cX0_reaches 45 = .ok (.invokestatic 223, 3) := dk_184 0 223 (dk_at dksX0_reaches_2 0 rfl rfl)
theorem dX0_reaches_48 : decode cX0_reaches 48 = .ok (.ifCond .eq 34, 3) := dk_153 0 34 (dk_at dksX0_reaches_2 3 rfl rfl)
theorem dX0_reaches_51 : decode cX0_reaches 51 = .ok (.aload_n 0, 1) := dk_42 (dk_at dksX0_reaches_2 6 rfl rfl)
theorem dX0_reaches_52 : decode cX0_reaches 52 = .ok (.aload 5, 2) := dk_25 5 (dk_at dksX0_reaches_2 7 rfl rfl)
theorem dX0_reaches_54 : decode cX0_reaches 54 = .ok (.iconst 0, 1) := dk_3 (dk_at dksX0_reaches_2 9 rfl rfl)
theorem dX0_reaches_55 : decode cX0_reaches 55 = .ok (.iaload, 1) := dk_46 (dk_at dksX0_reaches_2 10 rfl rfl)
theorem dX0_reaches_56 : decode cX0_reaches 56 = .ok (.invokevirtual 186, 3) := dk_182 0 186 (dk_at dksX0_reaches_2 11 rfl rfl)
theorem dX0_reaches_59 : decode cX0_reaches 59 = .ok (.ifCond .eq 23, 3) := dk_153 0 23 (dk_at dksX0_reaches_2 14 rfl rfl)
theorem dX0_reaches_62 : decode cX0_reaches 62 = .ok (.aload_n 0, 1) := dk_42 (dk_at dksX0_reaches_2 17 rfl rfl)
theorem dX0_reaches_63 : decode cX0_reaches 63 = .ok (.aload 5, 2) := dk_25 5 (dk_at dksX0_reaches_2 18 rfl rfl)
theorem dX0_reaches_65 : decode cX0_reaches 65 = .ok (.iconst 1, 1) := dk_4 (dk_at dksX0_reaches_2 20 rfl rfl)
theorem dX0_reaches_66 : decode cX0_reaches 66 = .ok (.iaload, 1) := dk_46 (dk_at dksX0_reaches_2 21 rfl rfl)
theorem dX0_reaches_67 : decode cX0_reaches 67 = .ok (.invokevirtual 186, 3) := dk_182 0 186 (dk_at dksX0_reaches_3 0 rfl rfl)
theorem dX0_reaches_70 : decode cX0_reaches 70 = .ok (.ifCond .eq 12, 3) := dk_153 0 12 (dk_at dksX0_reaches_3 3 rfl rfl)
theorem dX0_reaches_73 : decode cX0_reaches 73 = .ok (.iconst 1, 1) := dk_4 (dk_at dksX0_reaches_3 6 rfl rfl)
theorem dX0_reaches_74 : decode cX0_reaches 74 = .ok (.aload 5, 2) := dk_25 5 (dk_at dksX0_reaches_3 7 rfl rfl)
theorem dX0_reaches_76 : decode cX0_reaches 76 = .ok (.iconst 1, 1) := dk_4 (dk_at dksX0_reaches_3 9 rfl rfl)
theorem dX0_reaches_77 : decode cX0_reaches 77 = .ok (.iaload, 1) := dk_46 (dk_at dksX0_reaches_3 10 rfl rfl)
theorem dX0_reaches_78 : decode cX0_reaches 78 = .ok (.ishl, 1) := dk_120 (dk_at dksX0_reaches_3 11 rfl rfl)
theorem dX0_reaches_79 : decode cX0_reaches 79 = .ok (.goto 4, 3) := dk_167 0 4 (dk_at dksX0_reaches_3 12 rfl rfl)
theorem dX0_reaches_82 : decode cX0_reaches 82 = .ok (.iconst 0, 1) := dk_3 (dk_at dksX0_reaches_3 15 rfl rfl)
theorem dX0_reaches_83 : decode cX0_reaches 83 = .ok (.ior, 1) := dk_128 (dk_at dksX0_reaches_3 16 rfl rfl)
theorem dX0_reaches_84 : decode cX0_reaches 84 = .ok (.istore_n 2, 1) := dk_61 (dk_at dksX0_reaches_3 17 rfl rfl)
theorem dX0_reaches_85 : decode cX0_reaches 85 = .ok (.iinc 4 1, 3) := dk_132 4 1 (dk_at dksX0_reaches_3 18 rfl rfl)
theorem dX0_reaches_88 : decode cX0_reaches 88 = .ok (.goto (-75), 3) := dk_167 255 181 (dk_at dksX0_reaches_3 21 rfl rfl)
theorem dX0_reaches_91 : decode cX0_reaches 91 = .ok (.iinc 3 1, 3) := dk_132 3 1 (dk_at dksX0_reaches_4 0 rfl rfl)
theorem dX0_reaches_94 : decode cX0_reaches 94 = .ok (.goto (-90), 3) := dk_167 255 166 (dk_at dksX0_reaches_4 3 rfl rfl)
theorem dX0_reaches_97 : decode cX0_reaches 97 = .ok (.iload_n 2, 1) := dk_28 (dk_at dksX0_reaches_4 6 rfl rfl)
theorem dX0_reaches_98 : decode cX0_reaches 98 = .ok (.ireturn, 1) := dk_172 (dk_at dksX0_reaches_4 7 rfl rfl)
abbrev cX0_best : ByteArray := prog_1_method_73_code
def yX0_best : MethodName := ⟨RX0, "best", "()I"⟩
theorem dX0_best_0 : decode cX0_best 0 = .ok (.aload_n 0, 1) := by decide +kernel
theorem dX0_best_1 : decode cX0_best 1 = .ok (.invokevirtual 369, 3) := by decide +kernel
theorem dX0_best_4 : decode cX0_best 4 = .ok (.ireturn, 1) := by decide +kernel
abbrev cX0_bestNow : ByteArray := prog_1_method_72_code
def yX0_bestNow : MethodName := ⟨RX0, "bestNow", "()I"⟩
def dkwX0_bestNow_2 : List UInt8 := [184, 1, 110, 61, 132, 3, 1, 167, 255, 208, 27, 172]
abbrev dktX0_bestNow_2 : List UInt8 := dkwX0_bestNow_2 ++ []
def dkwX0_bestNow_1 : List UInt8 := [29, 120, 182, 1, 107, 96, 54, 4, 21, 4, 28, 164, 0, 7, 29, 167, 0, 4, 27, 60, 28, 21, 4]
abbrev dktX0_bestNow_1 : List UInt8 := dkwX0_bestNow_1 ++ dktX0_bestNow_2
def dkwX0_bestNow_0 : List UInt8 := [2, 60, 3, 61, 3, 62, 29, 42, 182, 0, 166, 162, 0, 46, 42, 29, 182, 0, 168, 180, 0, 180, 42, 4]
abbrev dktX0_bestNow_0 : List UInt8 := dkwX0_bestNow_0 ++ dktX0_bestNow_1
theorem dksX0_bestNow_0 : cX0_bestNow.data.toList.drop 0 = dktX0_bestNow_0 := by decide +kernel
theorem dksX0_bestNow_1 : cX0_bestNow.data.toList.drop 24 = dktX0_bestNow_1 := dk_seg dksX0_bestNow_0 24 rfl rfl
theorem dksX0_bestNow_2 : cX0_bestNow.data.toList.drop 47 = dktX0_bestNow_2 := dk_seg dksX0_bestNow_1 23 rfl rfl
theorem dX0_bestNow_0 : decode cX0_bestNow 0 = .ok (.iconst (-1), 1) := dk_2 (dk_at dksX0_bestNow_0 0 rfl rfl)
theorem dX0_bestNow_1 : decode cX0_bestNow 1 = .ok (.istore_n 1, 1) := dk_60 (dk_at dksX0_bestNow_0 1 rfl rfl)
theorem dX0_bestNow_2 : decode cX0_bestNow 2 = .ok (.iconst 0, 1) := dk_3 (dk_at dksX0_bestNow_0 2 rfl rfl)
theorem dX0_bestNow_3 : decode cX0_bestNow 3 = .ok (.istore_n 2, 1) := dk_61 (dk_at dksX0_bestNow_0 3 rfl rfl)
theorem dX0_bestNow_4 : decode cX0_bestNow 4 = .ok (.iconst 0, 1) := dk_3 (dk_at dksX0_bestNow_0 4 rfl rfl)
theorem dX0_bestNow_5 : decode cX0_bestNow 5 = .ok (.istore_n 3, 1) := dk_62 (dk_at dksX0_bestNow_0 5 rfl rfl)
theorem dX0_bestNow_6 : decode cX0_bestNow 6 = .ok (.iload_n 3, 1) := dk_29 (dk_at dksX0_bestNow_0 6 rfl rfl)
theorem dX0_bestNow_7 : decode cX0_bestNow 7 = .ok (.aload_n 0, 1) := dk_42 (dk_at dksX0_bestNow_0 7 rfl rfl)
theorem dX0_bestNow_8 : decode cX0_bestNow 8 = .ok (.invokevirtual 166, 3) := dk_182 0 166 (dk_at dksX0_bestNow_0 8 rfl rfl)
theorem dX0_bestNow_11 : decode cX0_bestNow 11 = .ok (.if_icmp .ge 46, 3) := dk_162 0 46 (dk_at dksX0_bestNow_0 11 rfl rfl)
theorem dX0_bestNow_14 : decode cX0_bestNow 14 = .ok (.aload_n 0, 1) := dk_42 (dk_at dksX0_bestNow_0 14 rfl rfl)
theorem dX0_bestNow_15 : decode cX0_bestNow 15 = .ok (.iload_n 3, 1) := dk_29 (dk_at dksX0_bestNow_0 15 rfl rfl)
theorem dX0_bestNow_16 : decode cX0_bestNow 16 = .ok (.invokevirtual 168, 3) := dk_182 0 168 (dk_at dksX0_bestNow_0 16 rfl rfl)
theorem dX0_bestNow_19 : decode cX0_bestNow 19 = .ok (.getfield 180, 3) := dk_180 0 180 (dk_at dksX0_bestNow_0 19 rfl rfl)
theorem dX0_bestNow_22 : decode cX0_bestNow 22 = .ok (.aload_n 0, 1) := dk_42 (dk_at dksX0_bestNow_0 22 rfl rfl)
theorem dX0_bestNow_23 : decode cX0_bestNow 23 = .ok (.iconst 1, 1) := dk_4 (dk_at dksX0_bestNow_0 23 rfl rfl)
theorem dX0_bestNow_24 : decode cX0_bestNow 24 = .ok (.iload_n 3, 1) := dk_29 (dk_at dksX0_bestNow_1 0 rfl rfl)
theorem dX0_bestNow_25 : decode cX0_bestNow 25 = .ok (.ishl, 1) := dk_120 (dk_at dksX0_bestNow_1 1 rfl rfl)
theorem dX0_bestNow_26 : decode cX0_bestNow 26 = .ok (.invokevirtual 363, 3) := dk_182 1 107 (dk_at dksX0_bestNow_1 2 rfl rfl)
theorem dX0_bestNow_29 : decode cX0_bestNow 29 = .ok (.iadd, 1) := dk_96 (dk_at dksX0_bestNow_1 5 rfl rfl)
theorem dX0_bestNow_30 : decode cX0_bestNow 30 = .ok (.istore 4, 2) := dk_54 4 (dk_at dksX0_bestNow_1 6 rfl rfl)
theorem dX0_bestNow_32 : decode cX0_bestNow 32 = .ok (.iload 4, 2) := dk_21 4 (dk_at dksX0_bestNow_1 8 rfl rfl)
theorem dX0_bestNow_34 : decode cX0_bestNow 34 = .ok (.iload_n 2, 1) := dk_28 (dk_at dksX0_bestNow_1 10 rfl rfl)
theorem dX0_bestNow_35 : decode cX0_bestNow 35 = .ok (.if_icmp .le 7, 3) := dk_164 0 7 (dk_at dksX0_bestNow_1 11 rfl rfl)
theorem dX0_bestNow_38 : decode cX0_bestNow 38 = .ok (.iload_n 3, 1) := dk_29 (dk_at dksX0_bestNow_1 14 rfl rfl)
theorem dX0_bestNow_39 : decode cX0_bestNow 39 = .ok (.goto 4, 3) := dk_167 0 4 (dk_at dksX0_bestNow_1 15 rfl rfl)
theorem dX0_bestNow_42 : decode cX0_bestNow 42 = .ok (.iload_n 1, 1) := dk_27 (dk_at dksX0_bestNow_1 18 rfl rfl)
theorem dX0_bestNow_43 : decode cX0_bestNow 43 = .ok (.istore_n 1, 1) := dk_60 (dk_at dksX0_bestNow_1 19 rfl rfl)
theorem dX0_bestNow_44 : decode cX0_bestNow 44 = .ok (.iload_n 2, 1) := dk_28 (dk_at dksX0_bestNow_1 20 rfl rfl)
theorem dX0_bestNow_45 : decode cX0_bestNow 45 = .ok (.iload 4, 2) := dk_21 4 (dk_at dksX0_bestNow_1 21 rfl rfl)
theorem dX0_bestNow_47 : decode cX0_bestNow 47 = .ok (.invokestatic 366, 3) := dk_184 1 110 (dk_at dksX0_bestNow_2 0 rfl rfl)
theorem dX0_bestNow_50 : decode cX0_bestNow 50 = .ok (.istore_n 2, 1) := dk_61 (dk_at dksX0_bestNow_2 3 rfl rfl)
theorem dX0_bestNow_51 : decode cX0_bestNow 51 = .ok (.iinc 3 1, 3) := dk_132 3 1 (dk_at dksX0_bestNow_2 4 rfl rfl)
theorem dX0_bestNow_54 : decode cX0_bestNow 54 = .ok (.goto (-48), 3) := dk_167 255 208 (dk_at dksX0_bestNow_2 7 rfl rfl)
theorem dX0_bestNow_57 : decode cX0_bestNow 57 = .ok (.iload_n 1, 1) := dk_27 (dk_at dksX0_bestNow_2 10 rfl rfl)
theorem dX0_bestNow_58 : decode cX0_bestNow 58 = .ok (.ireturn, 1) := dk_172 (dk_at dksX0_bestNow_2 11 rfl rfl)
abbrev cX0_regrets : ByteArray := prog_1_method_76_code
def yX0_regrets : MethodName := ⟨RX0, "regrets", "(II)J"⟩
def dkwX0_regrets_1 : List UInt8 := [182, 1, 122, 167, 0, 8, 16, 254, 184, 1, 59, 173]
abbrev dktX0_regrets_1 : List UInt8 := dkwX0_regrets_1 ++ []
def dkwX0_regrets_0 : List UInt8 := [27, 133, 9, 20, 1, 120, 184, 0, 89, 153, 0, 19, 28, 184, 0, 110, 153, 0, 12, 42, 27, 28]
abbrev dktX0_regrets_0 : List UInt8 := dkwX0_regrets_0 ++ dktX0_regrets_1
theorem dksX0_regrets_0 : cX0_regrets.data.toList.drop 0 = dktX0_regrets_0 := by decide +kernel
theorem dksX0_regrets_1 : cX0_regrets.data.toList.drop 22 = dktX0_regrets_1 := dk_seg dksX0_regrets_0 22 rfl rfl
theorem dX0_regrets_0 : decode cX0_regrets 0 = .ok (.iload_n 1, 1) := dk_27 (dk_at dksX0_regrets_0 0 rfl rfl)
theorem dX0_regrets_1 : decode cX0_regrets 1 = .ok (.i2l, 1) := dk_133 (dk_at dksX0_regrets_0 1 rfl rfl)
theorem dX0_regrets_2 : decode cX0_regrets 2 = .ok (.lconst 0, 1) := dk_9 (dk_at dksX0_regrets_0 2 rfl rfl)
theorem dX0_regrets_3 : decode cX0_regrets 3 = .ok (.ldc2_w 376, 3) := dk_20 1 120 (dk_at dksX0_regrets_0 3 rfl rfl)
theorem dX0_regrets_6 : decode cX0_regrets 6 = .ok (.invokestatic 89, 3) := dk_184 0 89 (dk_at dksX0_regrets_0 6 rfl rfl)
theorem dX0_regrets_9 : decode cX0_regrets 9 = .ok (.ifCond .eq 19, 3) := dk_153 0 19 (dk_at dksX0_regrets_0 9 rfl rfl)
theorem dX0_regrets_12 : decode cX0_regrets 12 = .ok (.iload_n 2, 1) := dk_28 (dk_at dksX0_regrets_0 12 rfl rfl)
theorem dX0_regrets_13 : decode cX0_regrets 13 = .ok (.invokestatic 110, 3) := dk_184 0 110 (dk_at dksX0_regrets_0 13 rfl rfl)
theorem dX0_regrets_16 : decode cX0_regrets 16 = .ok (.ifCond .eq 12, 3) := dk_153 0 12 (dk_at dksX0_regrets_0 16 rfl rfl)
theorem dX0_regrets_19 : decode cX0_regrets 19 = .ok (.aload_n 0, 1) := dk_42 (dk_at dksX0_regrets_0 19 rfl rfl)
theorem dX0_regrets_20 : decode cX0_regrets 20 = .ok (.iload_n 1, 1) := dk_27 (dk_at dksX0_regrets_0 20 rfl rfl)
theorem dX0_regrets_21 : decode cX0_regrets 21 = .ok (.iload_n 2, 1) := dk_28 (dk_at dksX0_regrets_0 21 rfl rfl)
theorem dX0_regrets_22 : decode cX0_regrets 22 = .ok (.invokevirtual 378, 3) := dk_182 1 122 (dk_at dksX0_regrets_1 0 rfl rfl)
theorem dX0_regrets_25 : decode cX0_regrets 25 = .ok (.goto 8, 3) := dk_167 0 8 (dk_at dksX0_regrets_1 3 rfl rfl)
theorem dX0_regrets_28 : decode cX0_regrets 28 = .ok (.bipush (-2), 2) := dk_16 254 (dk_at dksX0_regrets_1 6 rfl rfl)
theorem dX0_regrets_30 : decode cX0_regrets 30 = .ok (.invokestatic 315, 3) := dk_184 1 59 (dk_at dksX0_regrets_1 8 rfl rfl)
theorem dX0_regrets_33 : decode cX0_regrets 33 = .ok (.lreturn, 1) := dk_173 (dk_at dksX0_regrets_1 11 rfl rfl)
abbrev cX0_regretsOf : ByteArray := prog_1_method_75_code
def yX0_regretsOf : MethodName := ⟨RX0, "regretsOf", "(II)J"⟩
def dkwX0_regretsOf_2 : List UInt8 := [184, 1, 59, 167, 0, 20, 29, 27, 184, 1, 116, 42, 182, 0, 166, 27, 184, 1, 116, 28, 184, 1, 65, 173]
abbrev dktX0_regretsOf_2 : List UInt8 := dkwX0_regretsOf_2 ++ []
def dkwX0_regretsOf_1 : List UInt8 := [4, 167, 0, 4, 3, 96, 62, 132, 4, 1, 167, 255, 227, 42, 182, 0, 166, 27, 162, 0, 11, 16, 253]
abbrev dktX0_regretsOf_1 : List UInt8 := dkwX0_regretsOf_1 ++ dktX0_regretsOf_2
def dkwX0_regretsOf_0 : List UInt8 := [3, 62, 3, 54, 4, 21, 4, 42, 182, 0, 166, 162, 0, 26, 29, 42, 21, 4, 182, 0, 241, 154, 0, 7]
abbrev dktX0_regretsOf_0 : List UInt8 := dkwX0_regretsOf_0 ++ dktX0_regretsOf_1
theorem dksX0_regretsOf_0 : cX0_regretsOf.data.toList.drop 0 = dktX0_regretsOf_0 := by decide +kernel
theorem dksX0_regretsOf_1 : cX0_regretsOf.data.toList.drop 24 = dktX0_regretsOf_1 := dk_seg dksX0_regretsOf_0 24 rfl rfl
theorem dksX0_regretsOf_2 : cX0_regretsOf.data.toList.drop 47 = dktX0_regretsOf_2 := dk_seg dksX0_regretsOf_1 23 rfl rfl
theorem dX0_regretsOf_0 : decode cX0_regretsOf 0 = .ok (.iconst 0, 1) := dk_3 (dk_at dksX0_regretsOf_0 0 rfl rfl)
theorem dX0_regretsOf_1 : decode cX0_regretsOf 1 = .ok (.istore_n 3, 1) := dk_62 (dk_at dksX0_regretsOf_0 1 rfl rfl)
theorem dX0_regretsOf_2 : decode cX0_regretsOf 2 = .ok (.iconst 0, 1) := dk_3 (dk_at dksX0_regretsOf_0 2 rfl rfl)
theorem dX0_regretsOf_3 : decode cX0_regretsOf 3 = .ok (.istore 4, 2) := dk_54 4 (dk_at dksX0_regretsOf_0 3 rfl rfl)
theorem dX0_regretsOf_5 : decode cX0_regretsOf 5 = .ok (.iload 4, 2) := dk_21 4 (dk_at dksX0_regretsOf_0 5 rfl rfl)
theorem dX0_regretsOf_7 : decode cX0_regretsOf 7 = .ok (.aload_n 0, 1) := dk_42 (dk_at dksX0_regretsOf_0 7 rfl rfl)
theorem dX0_regretsOf_8 : decode cX0_regretsOf 8 = .ok (.invokevirtual 166, 3) := dk_182 0 166 (dk_at dksX0_regretsOf_0 8 rfl rfl)
theorem dX0_regretsOf_11 : decode cX0_regretsOf 11 = .ok (.if_icmp .ge 26, 3) := dk_162 0 26 (dk_at dksX0_regretsOf_0 11 rfl rfl)
theorem dX0_regretsOf_14 : decode cX0_regretsOf 14 = .ok (.iload_n 3, 1) := dk_29 (dk_at dksX0_regretsOf_0 14 rfl rfl)
theorem dX0_regretsOf_15 : decode cX0_regretsOf 15 = .ok (.aload_n 0, 1) := dk_42 (dk_at dksX0_regretsOf_0 15 rfl rfl)
theorem dX0_regretsOf_16 : decode cX0_regretsOf 16 = .ok (.iload 4, 2) := dk_21 4 (dk_at dksX0_regretsOf_0 16 rfl rfl)
theorem dX0_regretsOf_18 : decode cX0_regretsOf 18 = .ok (.invokevirtual 241, 3) := dk_182 0 241 (dk_at dksX0_regretsOf_0 18 rfl rfl)
theorem dX0_regretsOf_21 : decode cX0_regretsOf 21 = .ok (.ifCond .ne 7, 3) := dk_154 0 7 (dk_at dksX0_regretsOf_0 21 rfl rfl)
theorem dX0_regretsOf_24 : decode cX0_regretsOf 24 = .ok (.iconst 1, 1) := dk_4 (dk_at dksX0_regretsOf_1 0 rfl rfl)
theorem dX0_regretsOf_25 : decode cX0_regretsOf 25 = .ok (.goto 4, 3) := dk_167 0 4 (dk_at dksX0_regretsOf_1 1 rfl rfl)
theorem dX0_regretsOf_28 : decode cX0_regretsOf 28 = .ok (.iconst 0, 1) := dk_3 (dk_at dksX0_regretsOf_1 4 rfl rfl)
theorem dX0_regretsOf_29 : decode cX0_regretsOf 29 = .ok (.iadd, 1) := dk_96 (dk_at dksX0_regretsOf_1 5 rfl rfl)
theorem dX0_regretsOf_30 : decode cX0_regretsOf 30 = .ok (.istore_n 3, 1) := dk_62 (dk_at dksX0_regretsOf_1 6 rfl rfl)
theorem dX0_regretsOf_31 : decode cX0_regretsOf 31 = .ok (.iinc 4 1, 3) := dk_132 4 1 (dk_at dksX0_regretsOf_1 7 rfl rfl)
theorem dX0_regretsOf_34 : decode cX0_regretsOf 34 = .ok (.goto (-29), 3) := dk_167 255 227 (dk_at dksX0_regretsOf_1 10 rfl rfl)
theorem dX0_regretsOf_37 : decode cX0_regretsOf 37 = .ok (.aload_n 0, 1) := dk_42 (dk_at dksX0_regretsOf_1 13 rfl rfl)
theorem dX0_regretsOf_38 : decode cX0_regretsOf 38 = .ok (.invokevirtual 166, 3) := dk_182 0 166 (dk_at dksX0_regretsOf_1 14 rfl rfl)
theorem dX0_regretsOf_41 : decode cX0_regretsOf 41 = .ok (.iload_n 1, 1) := dk_27 (dk_at dksX0_regretsOf_1 17 rfl rfl)
theorem dX0_regretsOf_42 : decode cX0_regretsOf 42 = .ok (.if_icmp .ge 11, 3) := dk_162 0 11 (dk_at dksX0_regretsOf_1 18 rfl rfl)
theorem dX0_regretsOf_45 : decode cX0_regretsOf 45 = .ok (.bipush (-3), 2) := dk_16 253 (dk_at dksX0_regretsOf_1 21 rfl rfl)
theorem dX0_regretsOf_47 : decode cX0_regretsOf 47 = .ok (.invokestatic 315, 3) := dk_184 1 59 (dk_at dksX0_regretsOf_2 0 rfl rfl)
theorem dX0_regretsOf_50 : decode cX0_regretsOf 50 = .ok (.goto 20, 3) := dk_167 0 20 (dk_at dksX0_regretsOf_2 3 rfl rfl)
theorem dX0_regretsOf_53 : decode cX0_regretsOf 53 = .ok (.iload_n 3, 1) := dk_29 (dk_at dksX0_regretsOf_2 6 rfl rfl)
theorem dX0_regretsOf_54 : decode cX0_regretsOf 54 = .ok (.iload_n 1, 1) := dk_27 (dk_at dksX0_regretsOf_2 7 rfl rfl)
theorem dX0_regretsOf_55 : decode cX0_regretsOf 55 = .ok (.invokestatic 372, 3) := dk_184 1 116 (dk_at dksX0_regretsOf_2 8 rfl rfl)
theorem dX0_regretsOf_58 : decode cX0_regretsOf 58 = .ok (.aload_n 0, 1) := dk_42 (dk_at dksX0_regretsOf_2 11 rfl rfl)
theorem dX0_regretsOf_59 : decode cX0_regretsOf 59 = .ok (.invokevirtual 166, 3) := dk_182 0 166 (dk_at dksX0_regretsOf_2 12 rfl rfl)
theorem dX0_regretsOf_62 : decode cX0_regretsOf 62 = .ok (.iload_n 1, 1) := dk_27 (dk_at dksX0_regretsOf_2 15 rfl rfl)
theorem dX0_regretsOf_63 : decode cX0_regretsOf 63 = .ok (.invokestatic 372, 3) := dk_184 1 116 (dk_at dksX0_regretsOf_2 16 rfl rfl)
theorem dX0_regretsOf_66 : decode cX0_regretsOf 66 = .ok (.iload_n 2, 1) := dk_28 (dk_at dksX0_regretsOf_2 19 rfl rfl)
theorem dX0_regretsOf_67 : decode cX0_regretsOf 67 = .ok (.invokestatic 321, 3) := dk_184 1 65 (dk_at dksX0_regretsOf_2 20 rfl rfl)
theorem dX0_regretsOf_70 : decode cX0_regretsOf 70 = .ok (.lreturn, 1) := dk_173 (dk_at dksX0_regretsOf_2 23 rfl rfl)
abbrev cX0_choices : ByteArray := prog_1_method_74_code
def yX0_choices : MethodName := ⟨RX0, "choices", "(II)J"⟩
def dkwX0_choices_2 : List UInt8 := [173]
abbrev dktX0_choices_2 : List UInt8 := dkwX0_choices_2 ++ []
def dkwX0_choices_1 : List UInt8 := [163, 0, 23, 32, 26, 27, 100, 21, 4, 96, 133, 105, 21, 4, 133, 109, 65, 132, 4, 1, 167, 255, 228, 32]
abbrev dktX0_choices_1 : List UInt8 := dkwX0_choices_1 ++ dktX0_choices_2
def dkwX0_choices_0 : List UInt8 := [27, 26, 164, 0, 7, 9, 167, 0, 4, 10, 65, 4, 54, 4, 21, 4, 27, 163, 0, 28, 27, 26]
abbrev dktX0_choices_0 : List UInt8 := dkwX0_choices_0 ++ dktX0_choices_1
theorem dksX0_choices_0 : cX0_choices.data.toList.drop 0 = dktX0_choices_0 := by decide +kernel
theorem dksX0_choices_1 : cX0_choices.data.toList.drop 22 = dktX0_choices_1 := dk_seg dksX0_choices_0 22 rfl rfl
theorem dksX0_choices_2 : cX0_choices.data.toList.drop 46 = dktX0_choices_2 := dk_seg dksX0_choices_1 24 rfl rfl
theorem dX0_choices_0 : decode cX0_choices 0 = .ok (.iload_n 1, 1) := dk_27 (dk_at dksX0_choices_0 0 rfl rfl)
theorem dX0_choices_1 : decode cX0_choices 1 = .ok (.iload_n 0, 1) := dk_26 (dk_at dksX0_choices_0 1 rfl rfl)
theorem dX0_choices_2 : decode cX0_choices 2 = .ok (.if_icmp .le 7, 3) := dk_164 0 7 (dk_at dksX0_choices_0 2 rfl rfl)
theorem dX0_choices_5 : decode cX0_choices 5 = .ok (.lconst 0, 1) := dk_9 (dk_at dksX0_choices_0 5 rfl rfl)
theorem dX0_choices_6 : decode cX0_choices 6 = .ok (.goto 4, 3) := dk_167 0 4 (dk_at dksX0_choices_0 6 rfl rfl)
theorem dX0_choices_9 : decode cX0_choices 9 = .ok (.lconst 1, 1) := dk_10 (dk_at dksX0_choices_0 9 rfl rfl)
theorem dX0_choices_10 : decode cX0_choices 10 = .ok (.lstore_n 2, 1) := dk_65 (dk_at dksX0_choices_0 10 rfl rfl)
theorem dX0_choices_11 : decode cX0_choices 11 = .ok (.iconst 1, 1) := dk_4 (dk_at dksX0_choices_0 11 rfl rfl)
theorem dX0_choices_12 : decode cX0_choices 12 = .ok (.istore 4, 2) := dk_54 4 (dk_at dksX0_choices_0 12 rfl rfl)
theorem dX0_choices_14 : decode cX0_choices 14 = .ok (.iload 4, 2) := dk_21 4 (dk_at dksX0_choices_0 14 rfl rfl)
theorem dX0_choices_16 : decode cX0_choices 16 = .ok (.iload_n 1, 1) := dk_27 (dk_at dksX0_choices_0 16 rfl rfl)
theorem dX0_choices_17 : decode cX0_choices 17 = .ok (.if_icmp .gt 28, 3) := dk_163 0 28 (dk_at dksX0_choices_0 17 rfl rfl)
theorem dX0_choices_20 : decode cX0_choices 20 = .ok (.iload_n 1, 1) := dk_27 (dk_at dksX0_choices_0 20 rfl rfl)
theorem dX0_choices_21 : decode cX0_choices 21 = .ok (.iload_n 0, 1) := dk_26 (dk_at dksX0_choices_0 21 rfl rfl)
theorem dX0_choices_22 : decode cX0_choices 22 = .ok (.if_icmp .gt 23, 3) := dk_163 0 23 (dk_at dksX0_choices_1 0 rfl rfl)
theorem dX0_choices_25 : decode cX0_choices 25 = .ok (.lload_n 2, 1) := dk_32 (dk_at dksX0_choices_1 3 rfl rfl)
theorem dX0_choices_26 : decode cX0_choices 26 = .ok (.iload_n 0, 1) := dk_26 (dk_at dksX0_choices_1 4 rfl rfl)
theorem dX0_choices_27 : decode cX0_choices 27 = .ok (.iload_n 1, 1) := dk_27 (dk_at dksX0_choices_1 5 rfl rfl)
theorem dX0_choices_28 : decode cX0_choices 28 = .ok (.isub, 1) := dk_100 (dk_at dksX0_choices_1 6 rfl rfl)
theorem dX0_choices_29 : decode cX0_choices 29 = .ok (.iload 4, 2) := dk_21 4 (dk_at dksX0_choices_1 7 rfl rfl)
theorem dX0_choices_31 : decode cX0_choices 31 = .ok (.iadd, 1) := dk_96 (dk_at dksX0_choices_1 9 rfl rfl)
theorem dX0_choices_32 : decode cX0_choices 32 = .ok (.i2l, 1) := dk_133 (dk_at dksX0_choices_1 10 rfl rfl)
theorem dX0_choices_33 : decode cX0_choices 33 = .ok (.lmul, 1) := dk_105 (dk_at dksX0_choices_1 11 rfl rfl)
theorem dX0_choices_34 : decode cX0_choices 34 = .ok (.iload 4, 2) := dk_21 4 (dk_at dksX0_choices_1 12 rfl rfl)
theorem dX0_choices_36 : decode cX0_choices 36 = .ok (.i2l, 1) := dk_133 (dk_at dksX0_choices_1 14 rfl rfl)
theorem dX0_choices_37 : decode cX0_choices 37 = .ok (.ldiv, 1) := dk_109 (dk_at dksX0_choices_1 15 rfl rfl)
theorem dX0_choices_38 : decode cX0_choices 38 = .ok (.lstore_n 2, 1) := dk_65 (dk_at dksX0_choices_1 16 rfl rfl)
theorem dX0_choices_39 : decode cX0_choices 39 = .ok (.iinc 4 1, 3) := dk_132 4 1 (dk_at dksX0_choices_1 17 rfl rfl)
theorem dX0_choices_42 : decode cX0_choices 42 = .ok (.goto (-28), 3) := dk_167 255 228 (dk_at dksX0_choices_1 20 rfl rfl)
theorem dX0_choices_45 : decode cX0_choices 45 = .ok (.lload_n 2, 1) := dk_32 (dk_at dksX0_choices_1 23 rfl rfl)
theorem dX0_choices_46 : decode cX0_choices 46 = .ok (.lreturn, 1) := dk_173 (dk_at dksX0_choices_2 0 rfl rfl)
abbrev cX0_sheet : ByteArray := prog_1_method_79_code
def yX0_sheet : MethodName := ⟨RX0, "sheet", "(III)I"⟩
def dkwX0_sheet_2 : List UInt8 := [42, 8, 182, 0, 122, 172]
abbrev dktX0_sheet_2 : List UInt8 := dkwX0_sheet_2 ++ []
def dkwX0_sheet_1 : List UInt8 := [164, 0, 6, 16, 254, 172, 42, 180, 0, 78, 27, 50, 28, 29, 184, 1, 125, 181, 0, 119, 29, 172, 58, 4]
abbrev dktX0_sheet_1 : List UInt8 := dkwX0_sheet_1 ++ dktX0_sheet_2
def dkwX0_sheet_0 : List UInt8 := [27, 184, 0, 116, 153, 0, 21, 28, 133, 9, 20, 0, 202, 184, 0, 89, 153, 0, 9, 29, 16, 60]
abbrev dktX0_sheet_0 : List UInt8 := dkwX0_sheet_0 ++ dktX0_sheet_1
theorem dksX0_sheet_0 : cX0_sheet.data.toList.drop 0 = dktX0_sheet_0 := by decide +kernel
theorem dksX0_sheet_1 : cX0_sheet.data.toList.drop 22 = dktX0_sheet_1 := dk_seg dksX0_sheet_0 22 rfl rfl
theorem dksX0_sheet_2 : cX0_sheet.data.toList.drop 46 = dktX0_sheet_2 := dk_seg dksX0_sheet_1 24 rfl rfl
theorem dX0_sheet_0 : decode cX0_sheet 0 = .ok (.iload_n 1, 1) := dk_27 (dk_at dksX0_sheet_0 0 rfl rfl)
theorem dX0_sheet_1 : decode cX0_sheet 1 = .ok (.invokestatic 116, 3) := dk_184 0 116 (dk_at dksX0_sheet_0 1 rfl rfl)
theorem dX0_sheet_4 : decode cX0_sheet 4 = .ok (.ifCond .eq 21, 3) := dk_153 0 21 (dk_at dksX0_sheet_0 4 rfl rfl)
theorem dX0_sheet_7 : decode cX0_sheet 7 = .ok (.iload_n 2, 1) := dk_28 (dk_at dksX0_sheet_0 7 rfl rfl)
theorem dX0_sheet_8 : decode cX0_sheet 8 = .ok (.i2l, 1) := dk_133 (dk_at dksX0_sheet_0 8 rfl rfl)
theorem dX0_sheet_9 : decode cX0_sheet 9 = .ok (.lconst 0, 1) := dk_9 (dk_at dksX0_sheet_0 9 rfl rfl)
theorem dX0_sheet_10 : decode cX0_sheet 10 = .ok (.ldc2_w 202, 3) := dk_20 0 202 (dk_at dksX0_sheet_0 10 rfl rfl)
theorem dX0_sheet_13 : decode cX0_sheet 13 = .ok (.invokestatic 89, 3) := dk_184 0 89 (dk_at dksX0_sheet_0 13 rfl rfl)
theorem dX0_sheet_16 : decode cX0_sheet 16 = .ok (.ifCond .eq 9, 3) := dk_153 0 9 (dk_at dksX0_sheet_0 16 rfl rfl)
theorem dX0_sheet_19 : decode cX0_sheet 19 = .ok (.iload_n 3, 1) := dk_29 (dk_at dksX0_sheet_0 19 rfl rfl)
theorem dX0_sheet_20 : decode cX0_sheet 20 = .ok (.bipush 60, 2) := dk_16 60 (dk_at dksX0_sheet_0 20 rfl rfl)
theorem dX0_sheet_22 : decode cX0_sheet 22 = .ok (.if_icmp .le 6, 3) := dk_164 0 6 (dk_at dksX0_sheet_1 0 rfl rfl)
theorem dX0_sheet_25 : decode cX0_sheet 25 = .ok (.bipush (-2), 2) := dk_16 254 (dk_at dksX0_sheet_1 3 rfl rfl)
theorem dX0_sheet_27 : decode cX0_sheet 27 = .ok (.ireturn, 1) := dk_172 (dk_at dksX0_sheet_1 5 rfl rfl)
theorem dX0_sheet_28 : decode cX0_sheet 28 = .ok (.aload_n 0, 1) := dk_42 (dk_at dksX0_sheet_1 6 rfl rfl)
theorem dX0_sheet_29 : decode cX0_sheet 29 = .ok (.getfield 78, 3) := dk_180 0 78 (dk_at dksX0_sheet_1 7 rfl rfl)
theorem dX0_sheet_32 : decode cX0_sheet 32 = .ok (.iload_n 1, 1) := dk_27 (dk_at dksX0_sheet_1 10 rfl rfl)
theorem dX0_sheet_33 : decode cX0_sheet 33 = .ok (.aaload, 1) := dk_50 (dk_at dksX0_sheet_1 11 rfl rfl)
theorem dX0_sheet_34 : decode cX0_sheet 34 = .ok (.iload_n 2, 1) := dk_28 (dk_at dksX0_sheet_1 12 rfl rfl)
theorem dX0_sheet_35 : decode cX0_sheet 35 = .ok (.iload_n 3, 1) := dk_29 (dk_at dksX0_sheet_1 13 rfl rfl)
theorem dX0_sheet_36 : decode cX0_sheet 36 = .ok (.invokestatic 381, 3) := dk_184 1 125 (dk_at dksX0_sheet_1 14 rfl rfl)
theorem dX0_sheet_39 : decode cX0_sheet 39 = .ok (.putfield 119, 3) := dk_181 0 119 (dk_at dksX0_sheet_1 17 rfl rfl)
theorem dX0_sheet_42 : decode cX0_sheet 42 = .ok (.iload_n 3, 1) := dk_29 (dk_at dksX0_sheet_1 20 rfl rfl)
theorem dX0_sheet_43 : decode cX0_sheet 43 = .ok (.ireturn, 1) := dk_172 (dk_at dksX0_sheet_1 21 rfl rfl)
theorem dX0_sheet_44 : decode cX0_sheet 44 = .ok (.astore 4, 2) := dk_58 4 (dk_at dksX0_sheet_1 22 rfl rfl)
theorem dX0_sheet_46 : decode cX0_sheet 46 = .ok (.aload_n 0, 1) := dk_42 (dk_at dksX0_sheet_2 0 rfl rfl)
theorem dX0_sheet_47 : decode cX0_sheet 47 = .ok (.iconst 5, 1) := dk_8 (dk_at dksX0_sheet_2 1 rfl rfl)
theorem dX0_sheet_48 : decode cX0_sheet 48 = .ok (.invokevirtual 122, 3) := dk_182 0 122 (dk_at dksX0_sheet_2 2 rfl rfl)
theorem dX0_sheet_51 : decode cX0_sheet 51 = .ok (.ireturn, 1) := dk_172 (dk_at dksX0_sheet_2 5 rfl rfl)
abbrev cX0_rowOf : ByteArray := prog_1_method_78_code
def yX0_rowOf : MethodName := ⟨RX0, "rowOf", "(II)Ljava/lang/Object;"⟩
def dkwX0_rowOf_2 : List UInt8 := [27, 188, 8, 176, 27, 188, 9, 176, 27, 188, 10, 176]
abbrev dktX0_rowOf_2 : List UInt8 := dkwX0_rowOf_2 ++ []
def dkwX0_rowOf_1 : List UInt8 := [171, 0, 0, 0, 0, 0, 35, 0, 0, 0, 2, 0, 0, 0, 0, 0, 0, 0, 27, 0, 0, 0, 1, 0, 0, 0, 31]
abbrev dktX0_rowOf_1 : List UInt8 := dkwX0_rowOf_1 ++ dktX0_rowOf_2
def dkwX0_rowOf_0 : List UInt8 := [26]
abbrev dktX0_rowOf_0 : List UInt8 := dkwX0_rowOf_0 ++ dktX0_rowOf_1
theorem dksX0_rowOf_0 : cX0_rowOf.data.toList.drop 0 = dktX0_rowOf_0 := by decide +kernel
theorem dksX0_rowOf_1 : cX0_rowOf.data.toList.drop 1 = dktX0_rowOf_1 := dk_seg dksX0_rowOf_0 1 rfl rfl
theorem dksX0_rowOf_2 : cX0_rowOf.data.toList.drop 28 = dktX0_rowOf_2 := dk_seg dksX0_rowOf_1 27 rfl rfl
theorem dX0_rowOf_0 : decode cX0_rowOf 0 = .ok (.iload_n 0, 1) := dk_26 (dk_at dksX0_rowOf_0 0 rfl rfl)
theorem dX0_rowOf_1 : decode cX0_rowOf 1 = .ok (.lookupswitch 35 #[(0, 27), (1, 31)], 27) := by decide +kernel
theorem dX0_rowOf_28 : decode cX0_rowOf 28 = .ok (.iload_n 1, 1) := dk_27 (dk_at dksX0_rowOf_2 0 rfl rfl)
theorem dX0_rowOf_29 : decode cX0_rowOf 29 = .ok (.newarray .byte, 2) := dk_188_8 (dk_at dksX0_rowOf_2 1 rfl rfl)
theorem dX0_rowOf_31 : decode cX0_rowOf 31 = .ok (.areturn, 1) := dk_176 (dk_at dksX0_rowOf_2 3 rfl rfl)
theorem dX0_rowOf_32 : decode cX0_rowOf 32 = .ok (.iload_n 1, 1) := dk_27 (dk_at dksX0_rowOf_2 4 rfl rfl)
theorem dX0_rowOf_33 : decode cX0_rowOf 33 = .ok (.newarray .short, 2) := dk_188_9 (dk_at dksX0_rowOf_2 5 rfl rfl)
theorem dX0_rowOf_35 : decode cX0_rowOf 35 = .ok (.areturn, 1) := dk_176 (dk_at dksX0_rowOf_2 7 rfl rfl)
theorem dX0_rowOf_36 : decode cX0_rowOf 36 = .ok (.iload_n 1, 1) := dk_27 (dk_at dksX0_rowOf_2 8 rfl rfl)
theorem dX0_rowOf_37 : decode cX0_rowOf 37 = .ok (.newarray .int, 2) := dk_188_10 (dk_at dksX0_rowOf_2 9 rfl rfl)
theorem dX0_rowOf_39 : decode cX0_rowOf 39 = .ok (.areturn, 1) := dk_176 (dk_at dksX0_rowOf_2 11 rfl rfl)
abbrev cX0_lose : ByteArray := prog_1_method_80_code
def yX0_lose : MethodName := ⟨RX0, "lose", "(I)I"⟩
def dkwX0_lose_2 : List UInt8 := [28, 172]
abbrev dktX0_lose_2 : List UInt8 := dkwX0_lose_2 ++ []
def dkwX0_lose_1 : List UInt8 := [182, 0, 122, 172, 42, 180, 0, 78, 27, 50, 182, 0, 126, 61, 42, 180, 0, 78, 27, 50, 1, 181, 0, 119]
abbrev dktX0_lose_1 : List UInt8 := dkwX0_lose_1 ++ dktX0_lose_2
def dkwX0_lose_0 : List UInt8 := [27, 184, 0, 116, 154, 0, 6, 16, 254, 172, 42, 180, 0, 78, 27, 50, 180, 0, 119, 199, 0, 9, 42, 4]
abbrev dktX0_lose_0 : List UInt8 := dkwX0_lose_0 ++ dktX0_lose_1
theorem dksX0_lose_0 : cX0_lose.data.toList.drop 0 = dktX0_lose_0 := by decide +kernel
theorem dksX0_lose_1 : cX0_lose.data.toList.drop 24 = dktX0_lose_1 := dk_seg dksX0_lose_0 24 rfl rfl
theorem dksX0_lose_2 : cX0_lose.data.toList.drop 48 = dktX0_lose_2 := dk_seg dksX0_lose_1 24 rfl rfl
theorem dX0_lose_0 : decode cX0_lose 0 = .ok (.iload_n 1, 1) := dk_27 (dk_at dksX0_lose_0 0 rfl rfl)
theorem dX0_lose_1 : decode cX0_lose 1 = .ok (.invokestatic 116, 3) := dk_184 0 116 (dk_at dksX0_lose_0 1 rfl rfl)
theorem dX0_lose_4 : decode cX0_lose 4 = .ok (.ifCond .ne 6, 3) := dk_154 0 6 (dk_at dksX0_lose_0 4 rfl rfl)
theorem dX0_lose_7 : decode cX0_lose 7 = .ok (.bipush (-2), 2) := dk_16 254 (dk_at dksX0_lose_0 7 rfl rfl)
theorem dX0_lose_9 : decode cX0_lose 9 = .ok (.ireturn, 1) := dk_172 (dk_at dksX0_lose_0 9 rfl rfl)
theorem dX0_lose_10 : decode cX0_lose 10 = .ok (.aload_n 0, 1) := dk_42 (dk_at dksX0_lose_0 10 rfl rfl)
theorem dX0_lose_11 : decode cX0_lose 11 = .ok (.getfield 78, 3) := dk_180 0 78 (dk_at dksX0_lose_0 11 rfl rfl)
theorem dX0_lose_14 : decode cX0_lose 14 = .ok (.iload_n 1, 1) := dk_27 (dk_at dksX0_lose_0 14 rfl rfl)
theorem dX0_lose_15 : decode cX0_lose 15 = .ok (.aaload, 1) := dk_50 (dk_at dksX0_lose_0 15 rfl rfl)
theorem dX0_lose_16 : decode cX0_lose 16 = .ok (.getfield 119, 3) := dk_180 0 119 (dk_at dksX0_lose_0 16 rfl rfl)
theorem dX0_lose_19 : decode cX0_lose 19 = .ok (.ifnonnull 9, 3) := dk_199 0 9 (dk_at dksX0_lose_0 19 rfl rfl)
theorem dX0_lose_22 : decode cX0_lose 22 = .ok (.aload_n 0, 1) := dk_42 (dk_at dksX0_lose_0 22 rfl rfl)
theorem dX0_lose_23 : decode cX0_lose 23 = .ok (.iconst 1, 1) := dk_4 (dk_at dksX0_lose_0 23 rfl rfl)
theorem dX0_lose_24 : decode cX0_lose 24 = .ok (.invokevirtual 122, 3) := dk_182 0 122 (dk_at dksX0_lose_1 0 rfl rfl)
theorem dX0_lose_27 : decode cX0_lose 27 = .ok (.ireturn, 1) := dk_172 (dk_at dksX0_lose_1 3 rfl rfl)
theorem dX0_lose_28 : decode cX0_lose 28 = .ok (.aload_n 0, 1) := dk_42 (dk_at dksX0_lose_1 4 rfl rfl)
theorem dX0_lose_29 : decode cX0_lose 29 = .ok (.getfield 78, 3) := dk_180 0 78 (dk_at dksX0_lose_1 5 rfl rfl)
theorem dX0_lose_32 : decode cX0_lose 32 = .ok (.iload_n 1, 1) := dk_27 (dk_at dksX0_lose_1 8 rfl rfl)
theorem dX0_lose_33 : decode cX0_lose 33 = .ok (.aaload, 1) := dk_50 (dk_at dksX0_lose_1 9 rfl rfl)
theorem dX0_lose_34 : decode cX0_lose 34 = .ok (.invokevirtual 126, 3) := dk_182 0 126 (dk_at dksX0_lose_1 10 rfl rfl)
theorem dX0_lose_37 : decode cX0_lose 37 = .ok (.istore_n 2, 1) := dk_61 (dk_at dksX0_lose_1 13 rfl rfl)
theorem dX0_lose_38 : decode cX0_lose 38 = .ok (.aload_n 0, 1) := dk_42 (dk_at dksX0_lose_1 14 rfl rfl)
theorem dX0_lose_39 : decode cX0_lose 39 = .ok (.getfield 78, 3) := dk_180 0 78 (dk_at dksX0_lose_1 15 rfl rfl)
theorem dX0_lose_42 : decode cX0_lose 42 = .ok (.iload_n 1, 1) := dk_27 (dk_at dksX0_lose_1 18 rfl rfl)
theorem dX0_lose_43 : decode cX0_lose 43 = .ok (.aaload, 1) := dk_50 (dk_at dksX0_lose_1 19 rfl rfl)
theorem dX0_lose_44 : decode cX0_lose 44 = .ok (.aconst_null, 1) := dk_1 (dk_at dksX0_lose_1 20 rfl rfl)
theorem dX0_lose_45 : decode cX0_lose 45 = .ok (.putfield 119, 3) := dk_181 0 119 (dk_at dksX0_lose_1 21 rfl rfl)
theorem dX0_lose_48 : decode cX0_lose 48 = .ok (.iload_n 2, 1) := dk_28 (dk_at dksX0_lose_2 0 rfl rfl)
theorem dX0_lose_49 : decode cX0_lose 49 = .ok (.ireturn, 1) := dk_172 (dk_at dksX0_lose_2 1 rfl rfl)
abbrev cX0_put : ByteArray := prog_1_method_81_code
def yX0_put : MethodName := ⟨RX0, "put", "(IIII)I"⟩
def dkwX0_put_2 : List UInt8 := [29, 21, 4, 182, 1, 131, 4, 172, 58, 5, 42, 6, 182, 0, 122, 172, 58, 5, 42, 5, 182, 0, 122, 172]
abbrev dktX0_put_2 : List UInt8 := dkwX0_put_2 ++ []
def dkwX0_put_1 : List UInt8 := [180, 0, 78, 27, 50, 180, 0, 119, 199, 0, 9, 42, 4, 182, 0, 122, 172, 42, 180, 0, 78, 27, 50, 28]
abbrev dktX0_put_1 : List UInt8 := dkwX0_put_1 ++ dktX0_put_2
def dkwX0_put_0 : List UInt8 := [27, 184, 0, 116, 153, 0, 15, 28, 133, 9, 20, 0, 202, 184, 0, 89, 154, 0, 6, 16, 254, 172, 42]
abbrev dktX0_put_0 : List UInt8 := dkwX0_put_0 ++ dktX0_put_1
theorem dksX0_put_0 : cX0_put.data.toList.drop 0 = dktX0_put_0 := by decide +kernel
theorem dksX0_put_1 : cX0_put.data.toList.drop 23 = dktX0_put_1 := dk_seg dksX0_put_0 23 rfl rfl
theorem dksX0_put_2 : cX0_put.data.toList.drop 47 = dktX0_put_2 := dk_seg dksX0_put_1 24 rfl rfl
theorem dX0_put_0 : decode cX0_put 0 = .ok (.iload_n 1, 1) := dk_27 (dk_at dksX0_put_0 0 rfl rfl)
theorem dX0_put_1 : decode cX0_put 1 = .ok (.invokestatic 116, 3) := dk_184 0 116 (dk_at dksX0_put_0 1 rfl rfl)
theorem dX0_put_4 : decode cX0_put 4 = .ok (.ifCond .eq 15, 3) := dk_153 0 15 (dk_at dksX0_put_0 4 rfl rfl)
theorem dX0_put_7 : decode cX0_put 7 = .ok (.iload_n 2, 1) := dk_28 (dk_at dksX0_put_0 7 rfl rfl)
theorem dX0_put_8 : decode cX0_put 8 = .ok (.i2l, 1) := dk_133 (dk_at dksX0_put_0 8 rfl rfl)
theorem dX0_put_9 : decode cX0_put 9 = .ok (.lconst 0, 1) := dk_9 (dk_at dksX0_put_0 9 rfl rfl)
theorem dX0_put_10 : decode cX0_put 10 = .ok (.ldc2_w 202, 3) := dk_20 0 202 (dk_at dksX0_put_0 10 rfl rfl)
theorem dX0_put_13 : decode cX0_put 13 = .ok (.invokestatic 89, 3) := dk_184 0 89 (dk_at dksX0_put_0 13 rfl rfl)
theorem dX0_put_16 : decode cX0_put 16 = .ok (.ifCond .ne 6, 3) := dk_154 0 6 (dk_at dksX0_put_0 16 rfl rfl)
theorem dX0_put_19 : decode cX0_put 19 = .ok (.bipush (-2), 2) := dk_16 254 (dk_at dksX0_put_0 19 rfl rfl)
theorem dX0_put_21 : decode cX0_put 21 = .ok (.ireturn, 1) := dk_172 (dk_at dksX0_put_0 21 rfl rfl)
theorem dX0_put_22 : decode cX0_put 22 = .ok (.aload_n 0, 1) := dk_42 (dk_at dksX0_put_0 22 rfl rfl)
theorem dX0_put_23 : decode cX0_put 23 = .ok (.getfield 78, 3) := dk_180 0 78 (dk_at dksX0_put_1 0 rfl rfl)
theorem dX0_put_26 : decode cX0_put 26 = .ok (.iload_n 1, 1) := dk_27 (dk_at dksX0_put_1 3 rfl rfl)
theorem dX0_put_27 : decode cX0_put 27 = .ok (.aaload, 1) := dk_50 (dk_at dksX0_put_1 4 rfl rfl)
theorem dX0_put_28 : decode cX0_put 28 = .ok (.getfield 119, 3) := dk_180 0 119 (dk_at dksX0_put_1 5 rfl rfl)
theorem dX0_put_31 : decode cX0_put 31 = .ok (.ifnonnull 9, 3) := dk_199 0 9 (dk_at dksX0_put_1 8 rfl rfl)
theorem dX0_put_34 : decode cX0_put 34 = .ok (.aload_n 0, 1) := dk_42 (dk_at dksX0_put_1 11 rfl rfl)
theorem dX0_put_35 : decode cX0_put 35 = .ok (.iconst 1, 1) := dk_4 (dk_at dksX0_put_1 12 rfl rfl)
theorem dX0_put_36 : decode cX0_put 36 = .ok (.invokevirtual 122, 3) := dk_182 0 122 (dk_at dksX0_put_1 13 rfl rfl)
theorem dX0_put_39 : decode cX0_put 39 = .ok (.ireturn, 1) := dk_172 (dk_at dksX0_put_1 16 rfl rfl)
theorem dX0_put_40 : decode cX0_put 40 = .ok (.aload_n 0, 1) := dk_42 (dk_at dksX0_put_1 17 rfl rfl)
theorem dX0_put_41 : decode cX0_put 41 = .ok (.getfield 78, 3) := dk_180 0 78 (dk_at dksX0_put_1 18 rfl rfl)
theorem dX0_put_44 : decode cX0_put 44 = .ok (.iload_n 1, 1) := dk_27 (dk_at dksX0_put_1 21 rfl rfl)
theorem dX0_put_45 : decode cX0_put 45 = .ok (.aaload, 1) := dk_50 (dk_at dksX0_put_1 22 rfl rfl)
theorem dX0_put_46 : decode cX0_put 46 = .ok (.iload_n 2, 1) := dk_28 (dk_at dksX0_put_1 23 rfl rfl)
theorem dX0_put_47 : decode cX0_put 47 = .ok (.iload_n 3, 1) := dk_29 (dk_at dksX0_put_2 0 rfl rfl)
theorem dX0_put_48 : decode cX0_put 48 = .ok (.iload 4, 2) := dk_21 4 (dk_at dksX0_put_2 1 rfl rfl)
theorem dX0_put_50 : decode cX0_put 50 = .ok (.invokevirtual 387, 3) := dk_182 1 131 (dk_at dksX0_put_2 3 rfl rfl)
theorem dX0_put_53 : decode cX0_put 53 = .ok (.iconst 1, 1) := dk_4 (dk_at dksX0_put_2 6 rfl rfl)
theorem dX0_put_54 : decode cX0_put 54 = .ok (.ireturn, 1) := dk_172 (dk_at dksX0_put_2 7 rfl rfl)
theorem dX0_put_55 : decode cX0_put 55 = .ok (.astore 5, 2) := dk_58 5 (dk_at dksX0_put_2 8 rfl rfl)
theorem dX0_put_57 : decode cX0_put 57 = .ok (.aload_n 0, 1) := dk_42 (dk_at dksX0_put_2 10 rfl rfl)
theorem dX0_put_58 : decode cX0_put 58 = .ok (.iconst 3, 1) := dk_6 (dk_at dksX0_put_2 11 rfl rfl)
theorem dX0_put_59 : decode cX0_put 59 = .ok (.invokevirtual 122, 3) := dk_182 0 122 (dk_at dksX0_put_2 12 rfl rfl)
theorem dX0_put_62 : decode cX0_put 62 = .ok (.ireturn, 1) := dk_172 (dk_at dksX0_put_2 15 rfl rfl)
theorem dX0_put_63 : decode cX0_put 63 = .ok (.astore 5, 2) := dk_58 5 (dk_at dksX0_put_2 16 rfl rfl)
theorem dX0_put_65 : decode cX0_put 65 = .ok (.aload_n 0, 1) := dk_42 (dk_at dksX0_put_2 18 rfl rfl)
theorem dX0_put_66 : decode cX0_put 66 = .ok (.iconst 2, 1) := dk_5 (dk_at dksX0_put_2 19 rfl rfl)
theorem dX0_put_67 : decode cX0_put 67 = .ok (.invokevirtual 122, 3) := dk_182 0 122 (dk_at dksX0_put_2 20 rfl rfl)
theorem dX0_put_70 : decode cX0_put 70 = .ok (.ireturn, 1) := dk_172 (dk_at dksX0_put_2 23 rfl rfl)
abbrev cX0_get : ByteArray := prog_1_method_82_code
def yX0_get : MethodName := ⟨RX0, "get", "(III)I"⟩
def dkwX0_get_2 : List UInt8 := [29, 182, 0, 133, 172, 58, 4, 42, 6, 182, 1, 138, 172, 58, 4, 42, 5, 182, 1, 138, 172]
abbrev dktX0_get_2 : List UInt8 := dkwX0_get_2 ++ []
def dkwX0_get_1 : List UInt8 := [180, 0, 78, 27, 50, 180, 0, 119, 199, 0, 9, 42, 4, 182, 1, 138, 172, 42, 180, 0, 78, 27, 50, 28]
abbrev dktX0_get_1 : List UInt8 := dkwX0_get_1 ++ dktX0_get_2
def dkwX0_get_0 : List UInt8 := [27, 184, 0, 116, 153, 0, 15, 28, 133, 9, 20, 0, 202, 184, 0, 89, 154, 0, 6, 18, 88, 172, 42]
abbrev dktX0_get_0 : List UInt8 := dkwX0_get_0 ++ dktX0_get_1
theorem dksX0_get_0 : cX0_get.data.toList.drop 0 = dktX0_get_0 := by decide +kernel
theorem dksX0_get_1 : cX0_get.data.toList.drop 23 = dktX0_get_1 := dk_seg dksX0_get_0 23 rfl rfl
theorem dksX0_get_2 : cX0_get.data.toList.drop 47 = dktX0_get_2 := dk_seg dksX0_get_1 24 rfl rfl
theorem dX0_get_0 : decode cX0_get 0 = .ok (.iload_n 1, 1) := dk_27 (dk_at dksX0_get_0 0 rfl rfl)
theorem dX0_get_1 : decode cX0_get 1 = .ok (.invokestatic 116, 3) := dk_184 0 116 (dk_at dksX0_get_0 1 rfl rfl)
theorem dX0_get_4 : decode cX0_get 4 = .ok (.ifCond .eq 15, 3) := dk_153 0 15 (dk_at dksX0_get_0 4 rfl rfl)
theorem dX0_get_7 : decode cX0_get 7 = .ok (.iload_n 2, 1) := dk_28 (dk_at dksX0_get_0 7 rfl rfl)
theorem dX0_get_8 : decode cX0_get 8 = .ok (.i2l, 1) := dk_133 (dk_at dksX0_get_0 8 rfl rfl)
theorem dX0_get_9 : decode cX0_get 9 = .ok (.lconst 0, 1) := dk_9 (dk_at dksX0_get_0 9 rfl rfl)
theorem dX0_get_10 : decode cX0_get 10 = .ok (.ldc2_w 202, 3) := dk_20 0 202 (dk_at dksX0_get_0 10 rfl rfl)
theorem dX0_get_13 : decode cX0_get 13 = .ok (.invokestatic 89, 3) := dk_184 0 89 (dk_at dksX0_get_0 13 rfl rfl)
theorem dX0_get_16 : decode cX0_get 16 = .ok (.ifCond .ne 6, 3) := dk_154 0 6 (dk_at dksX0_get_0 16 rfl rfl)
theorem dX0_get_19 : decode cX0_get 19 = .ok (.ldc 88, 2) := dk_18 88 (dk_at dksX0_get_0 19 rfl rfl)
theorem dX0_get_21 : decode cX0_get 21 = .ok (.ireturn, 1) := dk_172 (dk_at dksX0_get_0 21 rfl rfl)
theorem dX0_get_22 : decode cX0_get 22 = .ok (.aload_n 0, 1) := dk_42 (dk_at dksX0_get_0 22 rfl rfl)
theorem dX0_get_23 : decode cX0_get 23 = .ok (.getfield 78, 3) := dk_180 0 78 (dk_at dksX0_get_1 0 rfl rfl)
theorem dX0_get_26 : decode cX0_get 26 = .ok (.iload_n 1, 1) := dk_27 (dk_at dksX0_get_1 3 rfl rfl)
theorem dX0_get_27 : decode cX0_get 27 = .ok (.aaload, 1) := dk_50 (dk_at dksX0_get_1 4 rfl rfl)
theorem dX0_get_28 : decode cX0_get 28 = .ok (.getfield 119, 3) := dk_180 0 119 (dk_at dksX0_get_1 5 rfl rfl)
theorem dX0_get_31 : decode cX0_get 31 = .ok (.ifnonnull 9, 3) := dk_199 0 9 (dk_at dksX0_get_1 8 rfl rfl)
theorem dX0_get_34 : decode cX0_get 34 = .ok (.aload_n 0, 1) := dk_42 (dk_at dksX0_get_1 11 rfl rfl)
theorem dX0_get_35 : decode cX0_get 35 = .ok (.iconst 1, 1) := dk_4 (dk_at dksX0_get_1 12 rfl rfl)
theorem dX0_get_36 : decode cX0_get 36 = .ok (.invokevirtual 394, 3) := dk_182 1 138 (dk_at dksX0_get_1 13 rfl rfl)
theorem dX0_get_39 : decode cX0_get 39 = .ok (.ireturn, 1) := dk_172 (dk_at dksX0_get_1 16 rfl rfl)
theorem dX0_get_40 : decode cX0_get 40 = .ok (.aload_n 0, 1) := dk_42 (dk_at dksX0_get_1 17 rfl rfl)
theorem dX0_get_41 : decode cX0_get 41 = .ok (.getfield 78, 3) := dk_180 0 78 (dk_at dksX0_get_1 18 rfl rfl)
theorem dX0_get_44 : decode cX0_get 44 = .ok (.iload_n 1, 1) := dk_27 (dk_at dksX0_get_1 21 rfl rfl)
theorem dX0_get_45 : decode cX0_get 45 = .ok (.aaload, 1) := dk_50 (dk_at dksX0_get_1 22 rfl rfl)
theorem dX0_get_46 : decode cX0_get 46 = .ok (.iload_n 2, 1) := dk_28 (dk_at dksX0_get_1 23 rfl rfl)
theorem dX0_get_47 : decode cX0_get 47 = .ok (.iload_n 3, 1) := dk_29 (dk_at dksX0_get_2 0 rfl rfl)
theorem dX0_get_48 : decode cX0_get 48 = .ok (.invokevirtual 133, 3) := dk_182 0 133 (dk_at dksX0_get_2 1 rfl rfl)
theorem dX0_get_51 : decode cX0_get 51 = .ok (.ireturn, 1) := dk_172 (dk_at dksX0_get_2 4 rfl rfl)
theorem dX0_get_52 : decode cX0_get 52 = .ok (.astore 4, 2) := dk_58 4 (dk_at dksX0_get_2 5 rfl rfl)
theorem dX0_get_54 : decode cX0_get 54 = .ok (.aload_n 0, 1) := dk_42 (dk_at dksX0_get_2 7 rfl rfl)
theorem dX0_get_55 : decode cX0_get 55 = .ok (.iconst 3, 1) := dk_6 (dk_at dksX0_get_2 8 rfl rfl)
theorem dX0_get_56 : decode cX0_get 56 = .ok (.invokevirtual 394, 3) := dk_182 1 138 (dk_at dksX0_get_2 9 rfl rfl)
theorem dX0_get_59 : decode cX0_get 59 = .ok (.ireturn, 1) := dk_172 (dk_at dksX0_get_2 12 rfl rfl)
theorem dX0_get_60 : decode cX0_get 60 = .ok (.astore 4, 2) := dk_58 4 (dk_at dksX0_get_2 13 rfl rfl)
theorem dX0_get_62 : decode cX0_get 62 = .ok (.aload_n 0, 1) := dk_42 (dk_at dksX0_get_2 15 rfl rfl)
theorem dX0_get_63 : decode cX0_get 63 = .ok (.iconst 2, 1) := dk_5 (dk_at dksX0_get_2 16 rfl rfl)
theorem dX0_get_64 : decode cX0_get 64 = .ok (.invokevirtual 394, 3) := dk_182 1 138 (dk_at dksX0_get_2 17 rfl rfl)
theorem dX0_get_67 : decode cX0_get 67 = .ok (.ireturn, 1) := dk_172 (dk_at dksX0_get_2 20 rfl rfl)
abbrev cX0_lowest : ByteArray := prog_1_method_5_code
def yX0_lowest : MethodName := ⟨RX0, "lowest", "(I)I"⟩
def dkwX0_lowest_0 : List UInt8 := [42, 27, 181, 0, 84, 18, 88, 172]
abbrev dktX0_lowest_0 : List UInt8 := dkwX0_lowest_0 ++ []
theorem dksX0_lowest_0 : cX0_lowest.data.toList.drop 0 = dktX0_lowest_0 := by decide +kernel
theorem dX0_lowest_0 : decode cX0_lowest 0 = .ok (.aload_n 0, 1) := dk_42 (dk_at dksX0_lowest_0 0 rfl rfl)
theorem dX0_lowest_1 : decode cX0_lowest 1 = .ok (.iload_n 1, 1) := dk_27 (dk_at dksX0_lowest_0 1 rfl rfl)
theorem dX0_lowest_2 : decode cX0_lowest 2 = .ok (.putfield 84, 3) := dk_181 0 84 (dk_at dksX0_lowest_0 2 rfl rfl)
theorem dX0_lowest_5 : decode cX0_lowest 5 = .ok (.ldc 88, 2) := dk_18 88 (dk_at dksX0_lowest_0 5 rfl rfl)
theorem dX0_lowest_7 : decode cX0_lowest 7 = .ok (.ireturn, 1) := dk_172 (dk_at dksX0_lowest_0 7 rfl rfl)
abbrev cX0_copy : ByteArray := prog_1_method_83_code
def yX0_copy : MethodName := ⟨RX0, "copy", "(IIIII)I"⟩
def dkwX0_copy_4 : List UInt8 := [21, 4, 21, 5, 184, 1, 2, 4, 172, 58, 6, 42, 5, 182, 0, 122, 172]
abbrev dktX0_copy_4 : List UInt8 := dkwX0_copy_4 ++ []
def dkwX0_copy_3 : List UInt8 := [182, 0, 122, 172, 42, 180, 0, 78, 27, 50, 180, 0, 119, 28, 42, 180, 0, 78, 29, 50, 180, 0, 119]
abbrev dktX0_copy_3 : List UInt8 := dkwX0_copy_3 ++ dktX0_copy_4
def dkwX0_copy_2 : List UInt8 := [42, 180, 0, 78, 27, 50, 182, 0, 130, 42, 180, 0, 78, 29, 50, 182, 0, 130, 159, 0, 9, 42, 7]
abbrev dktX0_copy_2 : List UInt8 := dkwX0_copy_2 ++ dktX0_copy_3
def dkwX0_copy_1 : List UInt8 := [180, 0, 119, 198, 0, 15, 42, 180, 0, 78, 29, 50, 180, 0, 119, 199, 0, 9, 42, 4, 182, 0, 122, 172]
abbrev dktX0_copy_1 : List UInt8 := dkwX0_copy_1 ++ dktX0_copy_2
def dkwX0_copy_0 : List UInt8 := [27, 184, 0, 116, 153, 0, 10, 29, 184, 0, 116, 154, 0, 6, 16, 254, 172, 42, 180, 0, 78, 27, 50]
abbrev dktX0_copy_0 : List UInt8 := dkwX0_copy_0 ++ dktX0_copy_1
theorem dksX0_copy_0 : cX0_copy.data.toList.drop 0 = dktX0_copy_0 := by decide +kernel
theorem dksX0_copy_1 : cX0_copy.data.toList.drop 23 = dktX0_copy_1 := dk_seg dksX0_copy_0 23 rfl rfl
theorem dksX0_copy_2 : cX0_copy.data.toList.drop 47 = dktX0_copy_2 := dk_seg dksX0_copy_1 24 rfl rfl
theorem dksX0_copy_3 : cX0_copy.data.toList.drop 70 = dktX0_copy_3 := dk_seg dksX0_copy_2 23 rfl rfl
theorem dksX0_copy_4 : cX0_copy.data.toList.drop 93 = dktX0_copy_4 := dk_seg dksX0_copy_3 23 rfl rfl
theorem dX0_copy_0 : decode cX0_copy 0 = .ok (.iload_n 1, 1) := dk_27 (dk_at dksX0_copy_0 0 rfl rfl)
theorem dX0_copy_1 : decode cX0_copy 1 = .ok (.invokestatic 116, 3) := dk_184 0 116 (dk_at dksX0_copy_0 1 rfl rfl)
theorem dX0_copy_4 : decode cX0_copy 4 = .ok (.ifCond .eq 10, 3) := dk_153 0 10 (dk_at dksX0_copy_0 4 rfl rfl)
theorem dX0_copy_7 : decode cX0_copy 7 = .ok (.iload_n 3, 1) := dk_29 (dk_at dksX0_copy_0 7 rfl rfl)
theorem dX0_copy_8 : decode cX0_copy 8 = .ok (.invokestatic 116, 3) := dk_184 0 116 (dk_at dksX0_copy_0 8 rfl rfl)
theorem dX0_copy_11 : decode cX0_copy 11 = .ok (.ifCond .ne 6, 3) := dk_154 0 6 (dk_at dksX0_copy_0 11 rfl rfl)
theorem dX0_copy_14 : decode cX0_copy 14 = .ok (.bipush (-2), 2) := dk_16 254 (dk_at dksX0_copy_0 14 rfl rfl)
theorem dX0_copy_16 : decode cX0_copy 16 = .ok (.ireturn, 1) := dk_172 (dk_at dksX0_copy_0 16 rfl rfl)
theorem dX0_copy_17 : decode cX0_copy 17 = .ok (.aload_n 0, 1) := dk_42 (dk_at dksX0_copy_0 17 rfl rfl)
theorem dX0_copy_18 : decode cX0_copy 18 = .ok (.getfield 78, 3) := dk_180 0 78 (dk_at dksX0_copy_0 18 rfl rfl)
theorem dX0_copy_21 : decode cX0_copy 21 = .ok (.iload_n 1, 1) := dk_27 (dk_at dksX0_copy_0 21 rfl rfl)
theorem dX0_copy_22 : decode cX0_copy 22 = .ok (.aaload, 1) := dk_50 (dk_at dksX0_copy_0 22 rfl rfl)
theorem dX0_copy_23 : decode cX0_copy 23 = .ok (.getfield 119, 3) := dk_180 0 119 (dk_at dksX0_copy_1 0 rfl rfl)
theorem dX0_copy_26 : decode cX0_copy 26 = .ok (.ifnull 15, 3) := dk_198 0 15 (dk_at dksX0_copy_1 3 rfl rfl)
theorem dX0_copy_29 : decode cX0_copy 29 = .ok (.aload_n 0, 1) := dk_42 (dk_at dksX0_copy_1 6 rfl rfl)
theorem dX0_copy_30 : decode cX0_copy 30 = .ok (.getfield 78, 3) := dk_180 0 78 (dk_at dksX0_copy_1 7 rfl rfl)
theorem dX0_copy_33 : decode cX0_copy 33 = .ok (.iload_n 3, 1) := dk_29 (dk_at dksX0_copy_1 10 rfl rfl)
theorem dX0_copy_34 : decode cX0_copy 34 = .ok (.aaload, 1) := dk_50 (dk_at dksX0_copy_1 11 rfl rfl)
theorem dX0_copy_35 : decode cX0_copy 35 = .ok (.getfield 119, 3) := dk_180 0 119 (dk_at dksX0_copy_1 12 rfl rfl)
theorem dX0_copy_38 : decode cX0_copy 38 = .ok (.ifnonnull 9, 3) := dk_199 0 9 (dk_at dksX0_copy_1 15 rfl rfl)
theorem dX0_copy_41 : decode cX0_copy 41 = .ok (.aload_n 0, 1) := dk_42 (dk_at dksX0_copy_1 18 rfl rfl)
theorem dX0_copy_42 : decode cX0_copy 42 = .ok (.iconst 1, 1) := dk_4 (dk_at dksX0_copy_1 19 rfl rfl)
theorem dX0_copy_43 : decode cX0_copy 43 = .ok (.invokevirtual 122, 3) := dk_182 0 122 (dk_at dksX0_copy_1 20 rfl rfl)
theorem dX0_copy_46 : decode cX0_copy 46 = .ok (.ireturn, 1) := dk_172 (dk_at dksX0_copy_1 23 rfl rfl)
theorem dX0_copy_47 : decode cX0_copy 47 = .ok (.aload_n 0, 1) := dk_42 (dk_at dksX0_copy_2 0 rfl rfl)
theorem dX0_copy_48 : decode cX0_copy 48 = .ok (.getfield 78, 3) := dk_180 0 78 (dk_at dksX0_copy_2 1 rfl rfl)
theorem dX0_copy_51 : decode cX0_copy 51 = .ok (.iload_n 1, 1) := dk_27 (dk_at dksX0_copy_2 4 rfl rfl)
theorem dX0_copy_52 : decode cX0_copy 52 = .ok (.aaload, 1) := dk_50 (dk_at dksX0_copy_2 5 rfl rfl)
theorem dX0_copy_53 : decode cX0_copy 53 = .ok (.invokevirtual 130, 3) := dk_182 0 130 (dk_at dksX0_copy_2 6 rfl rfl)
theorem dX0_copy_56 : decode cX0_copy 56 = .ok (.aload_n 0, 1) := dk_42 (dk_at dksX0_copy_2 9 rfl rfl)
theorem dX0_copy_57 : decode cX0_copy 57 = .ok (.getfield 78, 3) := dk_180 0 78 (dk_at dksX0_copy_2 10 rfl rfl)
theorem dX0_copy_60 : decode cX0_copy 60 = .ok (.iload_n 3, 1) := dk_29 (dk_at dksX0_copy_2 13 rfl rfl)
theorem dX0_copy_61 : decode cX0_copy 61 = .ok (.aaload, 1) := dk_50 (dk_at dksX0_copy_2 14 rfl rfl)
theorem dX0_copy_62 : decode cX0_copy 62 = .ok (.invokevirtual 130, 3) := dk_182 0 130 (dk_at dksX0_copy_2 15 rfl rfl)
theorem dX0_copy_65 : decode cX0_copy 65 = .ok (.if_icmp .eq 9, 3) := dk_159 0 9 (dk_at dksX0_copy_2 18 rfl rfl)
theorem dX0_copy_68 : decode cX0_copy 68 = .ok (.aload_n 0, 1) := dk_42 (dk_at dksX0_copy_2 21 rfl rfl)
theorem dX0_copy_69 : decode cX0_copy 69 = .ok (.iconst 4, 1) := dk_7 (dk_at dksX0_copy_2 22 rfl rfl)
theorem dX0_copy_70 : decode cX0_copy 70 = .ok (.invokevirtual 122, 3) := dk_182 0 122 (dk_at dksX0_copy_3 0 rfl rfl)
theorem dX0_copy_73 : decode cX0_copy 73 = .ok (.ireturn, 1) := dk_172 (dk_at dksX0_copy_3 3 rfl rfl)
theorem dX0_copy_74 : decode cX0_copy 74 = .ok (.aload_n 0, 1) := dk_42 (dk_at dksX0_copy_3 4 rfl rfl)
theorem dX0_copy_75 : decode cX0_copy 75 = .ok (.getfield 78, 3) := dk_180 0 78 (dk_at dksX0_copy_3 5 rfl rfl)
theorem dX0_copy_78 : decode cX0_copy 78 = .ok (.iload_n 1, 1) := dk_27 (dk_at dksX0_copy_3 8 rfl rfl)
theorem dX0_copy_79 : decode cX0_copy 79 = .ok (.aaload, 1) := dk_50 (dk_at dksX0_copy_3 9 rfl rfl)
theorem dX0_copy_80 : decode cX0_copy 80 = .ok (.getfield 119, 3) := dk_180 0 119 (dk_at dksX0_copy_3 10 rfl rfl)
theorem dX0_copy_83 : decode cX0_copy 83 = .ok (.iload_n 2, 1) := dk_28 (dk_at dksX0_copy_3 13 rfl rfl)
theorem dX0_copy_84 : decode cX0_copy 84 = .ok (.aload_n 0, 1) := dk_42 (dk_at dksX0_copy_3 14 rfl rfl)
theorem dX0_copy_85 : decode cX0_copy 85 = .ok (.getfield 78, 3) := dk_180 0 78 (dk_at dksX0_copy_3 15 rfl rfl)
theorem dX0_copy_88 : decode cX0_copy 88 = .ok (.iload_n 3, 1) := dk_29 (dk_at dksX0_copy_3 18 rfl rfl)
theorem dX0_copy_89 : decode cX0_copy 89 = .ok (.aaload, 1) := dk_50 (dk_at dksX0_copy_3 19 rfl rfl)
theorem dX0_copy_90 : decode cX0_copy 90 = .ok (.getfield 119, 3) := dk_180 0 119 (dk_at dksX0_copy_3 20 rfl rfl)
theorem dX0_copy_93 : decode cX0_copy 93 = .ok (.iload 4, 2) := dk_21 4 (dk_at dksX0_copy_4 0 rfl rfl)
theorem dX0_copy_95 : decode cX0_copy 95 = .ok (.iload 5, 2) := dk_21 5 (dk_at dksX0_copy_4 2 rfl rfl)
theorem dX0_copy_97 : decode cX0_copy 97 = .ok (.invokestatic 258, 3) := dk_184 1 2 (dk_at dksX0_copy_4 4 rfl rfl)
theorem dX0_copy_100 : decode cX0_copy 100 = .ok (.iconst 1, 1) := dk_4 (dk_at dksX0_copy_4 7 rfl rfl)
theorem dX0_copy_101 : decode cX0_copy 101 = .ok (.ireturn, 1) := dk_172 (dk_at dksX0_copy_4 8 rfl rfl)
theorem dX0_copy_102 : decode cX0_copy 102 = .ok (.astore 6, 2) := dk_58 6 (dk_at dksX0_copy_4 9 rfl rfl)
theorem dX0_copy_104 : decode cX0_copy 104 = .ok (.aload_n 0, 1) := dk_42 (dk_at dksX0_copy_4 11 rfl rfl)
theorem dX0_copy_105 : decode cX0_copy 105 = .ok (.iconst 2, 1) := dk_5 (dk_at dksX0_copy_4 12 rfl rfl)
theorem dX0_copy_106 : decode cX0_copy 106 = .ok (.invokevirtual 122, 3) := dk_182 0 122 (dk_at dksX0_copy_4 13 rfl rfl)
theorem dX0_copy_109 : decode cX0_copy 109 = .ok (.ireturn, 1) := dk_172 (dk_at dksX0_copy_4 16 rfl rfl)
abbrev cX0_write : ByteArray := prog_1_method_84_code
def yX0_write : MethodName := ⟨RX0, "write", "(I)I"⟩
def dkwX0_write_3 : List UInt8 := [132, 4, 1, 167, 255, 227, 29, 172]
abbrev dktX0_write_3 : List UInt8 := dkwX0_write_3 ++ []
def dkwX0_write_2 : List UInt8 := [162, 0, 29, 44, 44, 182, 0, 130, 21, 4, 42, 182, 1, 33, 180, 0, 62, 21, 4, 46, 182, 1, 131]
abbrev dktX0_write_2 : List UInt8 := dkwX0_write_2 ++ dktX0_write_3
def dkwX0_write_1 : List UInt8 := [42, 4, 182, 0, 122, 172, 42, 182, 0, 166, 44, 182, 0, 126, 184, 0, 214, 62, 3, 54, 4, 21, 4, 29]
abbrev dktX0_write_1 : List UInt8 := dkwX0_write_1 ++ dktX0_write_2
def dkwX0_write_0 : List UInt8 := [27, 184, 0, 116, 154, 0, 6, 16, 254, 172, 42, 180, 0, 78, 27, 50, 77, 44, 180, 0, 119, 199, 0, 9]
abbrev dktX0_write_0 : List UInt8 := dkwX0_write_0 ++ dktX0_write_1
theorem dksX0_write_0 : cX0_write.data.toList.drop 0 = dktX0_write_0 := by decide +kernel
theorem dksX0_write_1 : cX0_write.data.toList.drop 24 = dktX0_write_1 := dk_seg dksX0_write_0 24 rfl rfl
theorem dksX0_write_2 : cX0_write.data.toList.drop 48 = dktX0_write_2 := dk_seg dksX0_write_1 24 rfl rfl
theorem dksX0_write_3 : cX0_write.data.toList.drop 71 = dktX0_write_3 := dk_seg dksX0_write_2 23 rfl rfl
theorem dX0_write_0 : decode cX0_write 0 = .ok (.iload_n 1, 1) := dk_27 (dk_at dksX0_write_0 0 rfl rfl)
theorem dX0_write_1 : decode cX0_write 1 = .ok (.invokestatic 116, 3) := dk_184 0 116 (dk_at dksX0_write_0 1 rfl rfl)
theorem dX0_write_4 : decode cX0_write 4 = .ok (.ifCond .ne 6, 3) := dk_154 0 6 (dk_at dksX0_write_0 4 rfl rfl)
theorem dX0_write_7 : decode cX0_write 7 = .ok (.bipush (-2), 2) := dk_16 254 (dk_at dksX0_write_0 7 rfl rfl)
theorem dX0_write_9 : decode cX0_write 9 = .ok (.ireturn, 1) := dk_172 (dk_at dksX0_write_0 9 rfl rfl)
theorem dX0_write_10 : decode cX0_write 10 = .ok (.aload_n 0, 1) := dk_42 (dk_at dksX0_write_0 10 rfl rfl)
theorem dX0_write_11 : decode cX0_write 11 = .ok (.getfield 78, 3) := dk_180 0 78 (dk_at dksX0_write_0 11 rfl rfl)
theorem dX0_write_14 : decode cX0_write 14 = .ok (.iload_n 1, 1) := dk_27 (dk_at dksX0_write_0 14 rfl rfl)
theorem dX0_write_15 : decode cX0_write 15 = .ok (.aaload, 1) := dk_50 (dk_at dksX0_write_0 15 rfl rfl)
theorem dX0_write_16 : decode cX0_write 16 = .ok (.astore_n 2, 1) := dk_77 (dk_at dksX0_write_0 16 rfl rfl)
theorem dX0_write_17 : decode cX0_write 17 = .ok (.aload_n 2, 1) := dk_44 (dk_at dksX0_write_0 17 rfl rfl)
theorem dX0_write_18 : decode cX0_write 18 = .ok (.getfield 119, 3) := dk_180 0 119 (dk_at dksX0_write_0 18 rfl rfl)
theorem dX0_write_21 : decode cX0_write 21 = .ok (.ifnonnull 9, 3) := dk_199 0 9 (dk_at dksX0_write_0 21 rfl rfl)
theorem dX0_write_24 : decode cX0_write 24 = .ok (.aload_n 0, 1) := dk_42 (dk_at dksX0_write_1 0 rfl rfl)
theorem dX0_write_25 : decode cX0_write 25 = .ok (.iconst 1, 1) := dk_4 (dk_at dksX0_write_1 1 rfl rfl)
theorem dX0_write_26 : decode cX0_write 26 = .ok (.invokevirtual 122, 3) := dk_182 0 122 (dk_at dksX0_write_1 2 rfl rfl)
theorem dX0_write_29 : decode cX0_write 29 = .ok (.ireturn, 1) := dk_172 (dk_at dksX0_write_1 5 rfl rfl)
theorem dX0_write_30 : decode cX0_write 30 = .ok (.aload_n 0, 1) := dk_42 (dk_at dksX0_write_1 6 rfl rfl)
theorem dX0_write_31 : decode cX0_write 31 = .ok (.invokevirtual 166, 3) := dk_182 0 166 (dk_at dksX0_write_1 7 rfl rfl)
theorem dX0_write_34 : decode cX0_write 34 = .ok (.aload_n 2, 1) := dk_44 (dk_at dksX0_write_1 10 rfl rfl)
theorem dX0_write_35 : decode cX0_write 35 = .ok (.invokevirtual 126, 3) := dk_182 0 126 (dk_at dksX0_write_1 11 rfl rfl)
theorem dX0_write_38 : decode cX0_write 38 = .ok (.invokestatic 214, 3) := dk_184 0 214 (dk_at dksX0_write_1 14 rfl rfl)
theorem dX0_write_41 : decode cX0_write 41 = .ok (.istore_n 3, 1) := dk_62 (dk_at dksX0_write_1 17 rfl rfl)
theorem dX0_write_42 : decode cX0_write 42 = .ok (.iconst 0, 1) := dk_3 (dk_at dksX0_write_1 18 rfl rfl)
theorem dX0_write_43 : decode cX0_write 43 = .ok (.istore 4, 2) := dk_54 4 (dk_at dksX0_write_1 19 rfl rfl)
theorem dX0_write_45 : decode cX0_write 45 = .ok (.iload 4, 2) := dk_21 4 (dk_at dksX0_write_1 21 rfl rfl)
theorem dX0_write_47 : decode cX0_write 47 = .ok (.iload_n 3, 1) := dk_29 (dk_at dksX0_write_1 23 rfl rfl)
theorem dX0_write_48 : decode cX0_write 48 = .ok (.if_icmp .ge 29, 3) := dk_162 0 29 (dk_at dksX0_write_2 0 rfl rfl)
theorem dX0_write_51 : decode cX0_write 51 = .ok (.aload_n 2, 1) := dk_44 (dk_at dksX0_write_2 3 rfl rfl)
theorem dX0_write_52 : decode cX0_write 52 = .ok (.aload_n 2, 1) := dk_44 (dk_at dksX0_write_2 4 rfl rfl)
theorem dX0_write_53 : decode cX0_write 53 = .ok (.invokevirtual 130, 3) := dk_182 0 130 (dk_at dksX0_write_2 5 rfl rfl)
theorem dX0_write_56 : decode cX0_write 56 = .ok (.iload 4, 2) := dk_21 4 (dk_at dksX0_write_2 8 rfl rfl)
theorem dX0_write_58 : decode cX0_write 58 = .ok (.aload_n 0, 1) := dk_42 (dk_at dksX0_write_2 10 rfl rfl)
theorem dX0_write_59 : decode cX0_write 59 = .ok (.invokevirtual 289, 3) := dk_182 1 33 (dk_at dksX0_write_2 11 rfl rfl)
theorem dX0_write_62 : decode cX0_write 62 = .ok (.getfield 62, 3) := dk_180 0 62 (dk_at dksX0_write_2 14 rfl rfl)
theorem dX0_write_65 : decode cX0_write 65 = .ok (.iload 4, 2) := dk_21 4 (dk_at dksX0_write_2 17 rfl rfl)
theorem dX0_write_67 : decode cX0_write 67 = .ok (.iaload, 1) := dk_46 (dk_at dksX0_write_2 19 rfl rfl)
theorem dX0_write_68 : decode cX0_write 68 = .ok (.invokevirtual 387, 3) := dk_182 1 131 (dk_at dksX0_write_2 20 rfl rfl)
theorem dX0_write_71 : decode cX0_write 71 = .ok (.iinc 4 1, 3) := dk_132 4 1 (dk_at dksX0_write_3 0 rfl rfl)
theorem dX0_write_74 : decode cX0_write 74 = .ok (.goto (-29), 3) := dk_167 255 227 (dk_at dksX0_write_3 3 rfl rfl)
theorem dX0_write_77 : decode cX0_write 77 = .ok (.iload_n 3, 1) := dk_29 (dk_at dksX0_write_3 6 rfl rfl)
theorem dX0_write_78 : decode cX0_write 78 = .ok (.ireturn, 1) := dk_172 (dk_at dksX0_write_3 7 rfl rfl)
abbrev cX0_count : ByteArray := prog_1_method_85_code
def yX0_count : MethodName := ⟨RX0, "count", "(I)I"⟩
def dkwX0_count_5 : List UInt8 := [180, 0, 20, 29, 46, 96, 61, 132, 3, 1, 167, 255, 238, 28, 172, 42, 180, 0, 84, 172, 16, 254, 172]
abbrev dktX0_count_5 : List UInt8 := dkwX0_count_5 ++ []
def dkwX0_count_4 : List UInt8 := [42, 4, 42, 182, 0, 166, 120, 4, 100, 182, 1, 17, 172, 3, 62, 29, 16, 8, 162, 0, 18, 28, 42]
abbrev dktX0_count_4 : List UInt8 := dkwX0_count_4 ++ dktX0_count_5
def dkwX0_count_3 : List UInt8 := [42, 180, 0, 41, 180, 1, 146, 172, 42, 180, 0, 68, 182, 0, 159, 172, 42, 180, 0, 72, 182, 0, 159, 172]
abbrev dktX0_count_3 : List UInt8 := dkwX0_count_3 ++ dktX0_count_4
def dkwX0_count_2 : List UInt8 := [42, 182, 0, 166, 172, 42, 27, 4, 100, 182, 0, 141, 180, 1, 143, 172, 42, 180, 0, 41, 182, 0, 156, 87]
abbrev dktX0_count_2 : List UInt8 := dkwX0_count_2 ++ dktX0_count_3
def dkwX0_count_1 : List UInt8 := [170, 0, 0, 0, 140, 0, 0, 0, 0, 0, 0, 0, 8, 0, 0, 0, 49, 0, 0, 0, 54, 0, 0, 0, 54, 0, 0, 0, 65, 0, 0, 0, 81, 0, 0, 0, 89, 0, 0, 0, 97, 0, 0, 0, 110, 0, 0, 0, 135]
abbrev dktX0_count_1 : List UInt8 := dkwX0_count_1 ++ dktX0_count_2
def dkwX0_count_0 : List UInt8 := [3, 61, 27]
abbrev dktX0_count_0 : List UInt8 := dkwX0_count_0 ++ dktX0_count_1
theorem dksX0_count_0 : cX0_count.data.toList.drop 0 = dktX0_count_0 := by decide +kernel
theorem dksX0_count_1 : cX0_count.data.toList.drop 3 = dktX0_count_1 := dk_seg dksX0_count_0 3 rfl rfl
theorem dksX0_count_2 : cX0_count.data.toList.drop 52 = dktX0_count_2 := dk_seg dksX0_count_1 49 rfl rfl
theorem dksX0_count_3 : cX0_count.data.toList.drop 76 = dktX0_count_3 := dk_seg dksX0_count_2 24 rfl rfl
theorem dksX0_count_4 : cX0_count.data.toList.drop 100 = dktX0_count_4 := dk_seg dksX0_count_3 24 rfl rfl
theorem dksX0_count_5 : cX0_count.data.toList.drop 123 = dktX0_count_5 := dk_seg dksX0_count_4 23 rfl rfl
theorem dX0_count_0 : decode cX0_count 0 = .ok (.iconst 0, 1) := dk_3 (dk_at dksX0_count_0 0 rfl rfl)
theorem dX0_count_1 : decode cX0_count 1 = .ok (.istore_n 2, 1) := dk_61 (dk_at dksX0_count_0 1 rfl rfl)
theorem dX0_count_2 : decode cX0_count 2 = .ok (.iload_n 1, 1) := dk_27 (dk_at dksX0_count_0 2 rfl rfl)
theorem dX0_count_3 : decode cX0_count 3 = .ok (.tableswitch 140 0 8 #[49, 54, 54, 65, 81, 89, 97, 110, 135], 49) := by decide +kernel
theorem dX0_count_52 : decode cX0_count 52 = .ok (.aload_n 0, 1) := dk_42 (dk_at dksX0_count_2 0 rfl rfl)
theorem dX0_count_53 : decode cX0_count 53 = .ok (.invokevirtual 166, 3) := dk_182 0 166 (dk_at dksX0_count_2 1 rfl rfl)
theorem dX0_count_56 : decode cX0_count 56 = .ok (.ireturn, 1) := dk_172 (dk_at dksX0_count_2 4 rfl rfl)
theorem dX0_count_57 : decode cX0_count 57 = .ok (.aload_n 0, 1) := dk_42 (dk_at dksX0_count_2 5 rfl rfl)
theorem dX0_count_58 : decode cX0_count 58 = .ok (.iload_n 1, 1) := dk_27 (dk_at dksX0_count_2 6 rfl rfl)
theorem dX0_count_59 : decode cX0_count 59 = .ok (.iconst 1, 1) := dk_4 (dk_at dksX0_count_2 7 rfl rfl)
theorem dX0_count_60 : decode cX0_count 60 = .ok (.isub, 1) := dk_100 (dk_at dksX0_count_2 8 rfl rfl)
theorem dX0_count_61 : decode cX0_count 61 = .ok (.invokevirtual 141, 3) := dk_182 0 141 (dk_at dksX0_count_2 9 rfl rfl)
theorem dX0_count_64 : decode cX0_count 64 = .ok (.getfield 399, 3) := dk_180 1 143 (dk_at dksX0_count_2 12 rfl rfl)
theorem dX0_count_67 : decode cX0_count 67 = .ok (.ireturn, 1) := dk_172 (dk_at dksX0_count_2 15 rfl rfl)
theorem dX0_count_68 : decode cX0_count 68 = .ok (.aload_n 0, 1) := dk_42 (dk_at dksX0_count_2 16 rfl rfl)
theorem dX0_count_69 : decode cX0_count 69 = .ok (.getfield 41, 3) := dk_180 0 41 (dk_at dksX0_count_2 17 rfl rfl)
theorem dX0_count_72 : decode cX0_count 72 = .ok (.invokevirtual 156, 3) := dk_182 0 156 (dk_at dksX0_count_2 20 rfl rfl)
theorem dX0_count_75 : decode cX0_count 75 = .ok (.pop, 1) := dk_87 (dk_at dksX0_count_2 23 rfl rfl)
theorem dX0_count_76 : decode cX0_count 76 = .ok (.aload_n 0, 1) := dk_42 (dk_at dksX0_count_3 0 rfl rfl)
theorem dX0_count_77 : decode cX0_count 77 = .ok (.getfield 41, 3) := dk_180 0 41 (dk_at dksX0_count_3 1 rfl rfl)
theorem dX0_count_80 : decode cX0_count 80 = .ok (.getfield 402, 3) := dk_180 1 146 (dk_at dksX0_count_3 4 rfl rfl)
theorem dX0_count_83 : decode cX0_count 83 = .ok (.ireturn, 1) := dk_172 (dk_at dksX0_count_3 7 rfl rfl)
theorem dX0_count_84 : decode cX0_count 84 = .ok (.aload_n 0, 1) := dk_42 (dk_at dksX0_count_3 8 rfl rfl)
theorem dX0_count_85 : decode cX0_count 85 = .ok (.getfield 68, 3) := dk_180 0 68 (dk_at dksX0_count_3 9 rfl rfl)
theorem dX0_count_88 : decode cX0_count 88 = .ok (.invokevirtual 159, 3) := dk_182 0 159 (dk_at dksX0_count_3 12 rfl rfl)
theorem dX0_count_91 : decode cX0_count 91 = .ok (.ireturn, 1) := dk_172 (dk_at dksX0_count_3 15 rfl rfl)
theorem dX0_count_92 : decode cX0_count 92 = .ok (.aload_n 0, 1) := dk_42 (dk_at dksX0_count_3 16 rfl rfl)
theorem dX0_count_93 : decode cX0_count 93 = .ok (.getfield 72, 3) := dk_180 0 72 (dk_at dksX0_count_3 17 rfl rfl)
theorem dX0_count_96 : decode cX0_count 96 = .ok (.invokevirtual 159, 3) := dk_182 0 159 (dk_at dksX0_count_3 20 rfl rfl)
theorem dX0_count_99 : decode cX0_count 99 = .ok (.ireturn, 1) := dk_172 (dk_at dksX0_count_3 23 rfl rfl)
theorem dX0_count_100 : decode cX0_count 100 = .ok (.aload_n 0, 1) := dk_42 (dk_at dksX0_count_4 0 rfl rfl)
theorem dX0_count_101 : decode cX0_count 101 = .ok (.iconst 1, 1) := dk_4 (dk_at dksX0_count_4 1 rfl rfl)
theorem dX0_count_102 : decode cX0_count 102 = .ok (.aload_n 0, 1) := dk_42 (dk_at dksX0_count_4 2 rfl rfl)
theorem dX0_count_103 : decode cX0_count 103 = .ok (.invokevirtual 166, 3) := dk_182 0 166 (dk_at dksX0_count_4 3 rfl rfl)
theorem dX0_count_106 : decode cX0_count 106 = .ok (.ishl, 1) := dk_120 (dk_at dksX0_count_4 6 rfl rfl)
theorem dX0_count_107 : decode cX0_count 107 = .ok (.iconst 1, 1) := dk_4 (dk_at dksX0_count_4 7 rfl rfl)
theorem dX0_count_108 : decode cX0_count 108 = .ok (.isub, 1) := dk_100 (dk_at dksX0_count_4 8 rfl rfl)
theorem dX0_count_109 : decode cX0_count 109 = .ok (.invokevirtual 273, 3) := dk_182 1 17 (dk_at dksX0_count_4 9 rfl rfl)
theorem dX0_count_112 : decode cX0_count 112 = .ok (.ireturn, 1) := dk_172 (dk_at dksX0_count_4 12 rfl rfl)
theorem dX0_count_113 : decode cX0_count 113 = .ok (.iconst 0, 1) := dk_3 (dk_at dksX0_count_4 13 rfl rfl)
theorem dX0_count_114 : decode cX0_count 114 = .ok (.istore_n 3, 1) := dk_62 (dk_at dksX0_count_4 14 rfl rfl)
theorem dX0_count_115 : decode cX0_count 115 = .ok (.iload_n 3, 1) := dk_29 (dk_at dksX0_count_4 15 rfl rfl)
theorem dX0_count_116 : decode cX0_count 116 = .ok (.bipush 8, 2) := dk_16 8 (dk_at dksX0_count_4 16 rfl rfl)
theorem dX0_count_118 : decode cX0_count 118 = .ok (.if_icmp .ge 18, 3) := dk_162 0 18 (dk_at dksX0_count_4 18 rfl rfl)
theorem dX0_count_121 : decode cX0_count 121 = .ok (.iload_n 2, 1) := dk_28 (dk_at dksX0_count_4 21 rfl rfl)
theorem dX0_count_122 : decode cX0_count 122 = .ok (.aload_n 0, 1) := dk_42 (dk_at dksX0_count_4 22 rfl rfl)
theorem dX0_count_123 : decode cX0_count 123 = .ok (.getfield 20, 3) := dk_180 0 20 (dk_at dksX0_count_5 0 rfl rfl)
theorem dX0_count_126 : decode cX0_count 126 = .ok (.iload_n 3, 1) := dk_29 (dk_at dksX0_count_5 3 rfl rfl)
theorem dX0_count_127 : decode cX0_count 127 = .ok (.iaload, 1) := dk_46 (dk_at dksX0_count_5 4 rfl rfl)
theorem dX0_count_128 : decode cX0_count 128 = .ok (.iadd, 1) := dk_96 (dk_at dksX0_count_5 5 rfl rfl)
theorem dX0_count_129 : decode cX0_count 129 = .ok (.istore_n 2, 1) := dk_61 (dk_at dksX0_count_5 6 rfl rfl)
theorem dX0_count_130 : decode cX0_count 130 = .ok (.iinc 3 1, 3) := dk_132 3 1 (dk_at dksX0_count_5 7 rfl rfl)
theorem dX0_count_133 : decode cX0_count 133 = .ok (.goto (-18), 3) := dk_167 255 238 (dk_at dksX0_count_5 10 rfl rfl)
theorem dX0_count_136 : decode cX0_count 136 = .ok (.iload_n 2, 1) := dk_28 (dk_at dksX0_count_5 13 rfl rfl)
theorem dX0_count_137 : decode cX0_count 137 = .ok (.ireturn, 1) := dk_172 (dk_at dksX0_count_5 14 rfl rfl)
theorem dX0_count_138 : decode cX0_count 138 = .ok (.aload_n 0, 1) := dk_42 (dk_at dksX0_count_5 15 rfl rfl)
theorem dX0_count_139 : decode cX0_count 139 = .ok (.getfield 84, 3) := dk_180 0 84 (dk_at dksX0_count_5 16 rfl rfl)
theorem dX0_count_142 : decode cX0_count 142 = .ok (.ireturn, 1) := dk_172 (dk_at dksX0_count_5 19 rfl rfl)
theorem dX0_count_143 : decode cX0_count 143 = .ok (.bipush (-2), 2) := dk_16 254 (dk_at dksX0_count_5 20 rfl rfl)
theorem dX0_count_145 : decode cX0_count 145 = .ok (.ireturn, 1) := dk_172 (dk_at dksX0_count_5 22 rfl rfl)
abbrev cX0_digest : ByteArray := prog_1_method_86_code
def yX0_digest : MethodName := ⟨RX0, "digest", "()J"⟩
def dkwX0_digest_15 : List UInt8 := [162, 0, 22, 20, 1, 151, 31, 105, 42, 5, 29, 182, 1, 122, 97, 64, 132, 3, 1, 167, 255, 235, 31, 173]
abbrev dktX0_digest_15 : List UInt8 := dkwX0_digest_15 ++ []
def dkwX0_digest_14 : List UInt8 := [132, 3, 1, 167, 255, 235, 20, 1, 151, 31, 105, 42, 182, 1, 113, 133, 97, 64, 3, 62, 29, 5]
abbrev dktX0_digest_14 : List UInt8 := dkwX0_digest_14 ++ dktX0_digest_15
def dkwX0_digest_13 : List UInt8 := [167, 255, 235, 3, 62, 29, 5, 162, 0, 22, 20, 1, 151, 31, 105, 42, 29, 182, 1, 94, 133, 97, 64]
abbrev dktX0_digest_13 : List UInt8 := dkwX0_digest_13 ++ dktX0_digest_14
def dkwX0_digest_12 : List UInt8 := [3, 62, 29, 6, 162, 0, 22, 20, 1, 151, 31, 105, 42, 29, 182, 1, 49, 133, 97, 64, 132, 3, 1]
abbrev dktX0_digest_12 : List UInt8 := dkwX0_digest_12 ++ dktX0_digest_13
def dkwX0_digest_11 : List UInt8 := [182, 1, 33, 180, 1, 26, 133, 97, 64, 20, 1, 151, 31, 105, 42, 182, 1, 33, 180, 1, 27, 133, 97, 64]
abbrev dktX0_digest_11 : List UInt8 := dkwX0_digest_11 ++ dktX0_digest_12
def dkwX0_digest_10 : List UInt8 := [182, 0, 204, 133, 97, 64, 132, 4, 1, 167, 255, 232, 132, 3, 1, 167, 255, 218, 20, 1, 151, 31, 105, 42]
abbrev dktX0_digest_10 : List UInt8 := dkwX0_digest_10 ++ dktX0_digest_11
def dkwX0_digest_9 : List UInt8 := [7, 162, 0, 39, 3, 54, 4, 21, 4, 6, 162, 0, 24, 20, 1, 151, 31, 105, 42, 29, 21, 4]
abbrev dktX0_digest_9 : List UInt8 := dkwX0_digest_9 ++ dktX0_digest_10
def dkwX0_digest_8 : List UInt8 := [20, 1, 151, 31, 105, 42, 4, 29, 120, 182, 1, 107, 133, 97, 64, 132, 3, 1, 167, 255, 112, 3, 62, 29]
abbrev dktX0_digest_8 : List UInt8 := dkwX0_digest_8 ++ dktX0_digest_9
def dkwX0_digest_7 : List UInt8 := [132, 4, 1, 167, 255, 232, 20, 1, 151, 31, 105, 42, 182, 1, 33, 180, 0, 62, 29, 46, 133, 97, 64]
abbrev dktX0_digest_7 : List UInt8 := dkwX0_digest_7 ++ dktX0_digest_8
def dkwX0_digest_6 : List UInt8 := [54, 4, 21, 4, 5, 162, 0, 24, 20, 1, 151, 31, 105, 42, 29, 5, 21, 4, 182, 1, 69, 97, 64]
abbrev dktX0_digest_6 : List UInt8 := dkwX0_digest_6 ++ dktX0_digest_7
def dkwX0_digest_5 : List UInt8 := [42, 29, 5, 182, 0, 247, 133, 97, 64, 20, 1, 151, 31, 105, 42, 29, 5, 182, 1, 52, 133, 97, 64, 3]
abbrev dktX0_digest_5 : List UInt8 := dkwX0_digest_5 ++ dktX0_digest_6
def dkwX0_digest_4 : List UInt8 := [132, 4, 1, 167, 255, 232, 20, 1, 151, 31, 105, 42, 29, 182, 0, 241, 133, 97, 64, 20, 1, 151, 31, 105]
abbrev dktX0_digest_4 : List UInt8 := dkwX0_digest_4 ++ dktX0_digest_5
def dkwX0_digest_3 : List UInt8 := [54, 4, 21, 4, 8, 162, 0, 24, 20, 1, 151, 31, 105, 42, 29, 21, 4, 182, 0, 191, 133, 97, 64]
abbrev dktX0_digest_3 : List UInt8 := dkwX0_digest_3 ++ dktX0_digest_4
def dkwX0_digest_2 : List UInt8 := [182, 0, 152, 133, 97, 64, 132, 3, 1, 167, 255, 232, 3, 62, 29, 42, 182, 0, 166, 162, 0, 142, 3]
abbrev dktX0_digest_2 : List UInt8 := dkwX0_digest_2 ++ dktX0_digest_3
def dkwX0_digest_1 : List UInt8 := [64, 132, 3, 1, 167, 255, 234, 3, 62, 29, 5, 162, 0, 25, 20, 1, 151, 31, 105, 42, 29, 182, 0, 141]
abbrev dktX0_digest_1 : List UInt8 := dkwX0_digest_1 ++ dktX0_digest_2
def dkwX0_digest_0 : List UInt8 := [20, 1, 149, 64, 3, 62, 29, 16, 8, 162, 0, 22, 20, 1, 151, 31, 105, 42, 29, 182, 1, 153, 133, 97]
abbrev dktX0_digest_0 : List UInt8 := dkwX0_digest_0 ++ dktX0_digest_1
theorem dksX0_digest_0 : cX0_digest.data.toList.drop 0 = dktX0_digest_0 := by decide +kernel
theorem dksX0_digest_1 : cX0_digest.data.toList.drop 24 = dktX0_digest_1 := dk_seg dksX0_digest_0 24 rfl rfl
theorem dksX0_digest_2 : cX0_digest.data.toList.drop 48 = dktX0_digest_2 := dk_seg dksX0_digest_1 24 rfl rfl
theorem dksX0_digest_3 : cX0_digest.data.toList.drop 71 = dktX0_digest_3 := dk_seg dksX0_digest_2 23 rfl rfl
theorem dksX0_digest_4 : cX0_digest.data.toList.drop 94 = dktX0_digest_4 := dk_seg dksX0_digest_3 23 rfl rfl
theorem dksX0_digest_5 : cX0_digest.data.toList.drop 118 = dktX0_digest_5 := dk_seg dksX0_digest_4 24 rfl rfl
theorem dksX0_digest_6 : cX0_digest.data.toList.drop 142 = dktX0_digest_6 := dk_seg dksX0_digest_5 24 rfl rfl
theorem dksX0_digest_7 : cX0_digest.data.toList.drop 165 = dktX0_digest_7 := dk_seg dksX0_digest_6 23 rfl rfl
theorem dksX0_digest_8 : cX0_digest.data.toList.drop 188 = dktX0_digest_8 := dk_seg dksX0_digest_7 23 rfl rfl
theorem dksX0_digest_9 : cX0_digest.data.toList.drop 212 = dktX0_digest_9 := dk_seg dksX0_digest_8 24 rfl rfl
theorem dksX0_digest_10 : cX0_digest.data.toList.drop 234 = dktX0_digest_10 := dk_seg dksX0_digest_9 22 rfl rfl
theorem dksX0_digest_11 : cX0_digest.data.toList.drop 258 = dktX0_digest_11 := dk_seg dksX0_digest_10 24 rfl rfl
theorem dksX0_digest_12 : cX0_digest.data.toList.drop 282 = dktX0_digest_12 := dk_seg dksX0_digest_11 24 rfl rfl
theorem dksX0_digest_13 : cX0_digest.data.toList.drop 305 = dktX0_digest_13 := dk_seg dksX0_digest_12 23 rfl rfl
theorem dksX0_digest_14 : cX0_digest.data.toList.drop 328 = dktX0_digest_14 := dk_seg dksX0_digest_13 23 rfl rfl
theorem dksX0_digest_15 : cX0_digest.data.toList.drop 350 = dktX0_digest_15 := dk_seg dksX0_digest_14 22 rfl rfl
theorem dX0_digest_0 : decode cX0_digest 0 = .ok (.ldc2_w 405, 3) := dk_20 1 149 (dk_at dksX0_digest_0 0 rfl rfl)
theorem dX0_digest_3 : decode cX0_digest 3 = .ok (.lstore_n 1, 1) := dk_64 (dk_at dksX0_digest_0 3 rfl rfl)
theorem dX0_digest_4 : decode cX0_digest 4 = .ok (.iconst 0, 1) := dk_3 (dk_at dksX0_digest_0 4 rfl rfl)
theorem dX0_digest_5 : decode cX0_digest 5 = .ok (.istore_n 3, 1) := dk_62 (dk_at dksX0_digest_0 5 rfl rfl)
theorem dX0_digest_6 : decode cX0_digest 6 = .ok (.iload_n 3, 1) := dk_29 (dk_at dksX0_digest_0 6 rfl rfl)
theorem dX0_digest_7 : decode cX0_digest 7 = .ok (.bipush 8, 2) := dk_16 8 (dk_at dksX0_digest_0 7 rfl rfl)
theorem dX0_digest_9 : decode cX0_digest 9 = .ok (.if_icmp .ge 22, 3) := dk_162 0 22 (dk_at dksX0_digest_0 9 rfl rfl)
theorem dX0_digest_12 : decode cX0_digest 12 = .ok (.ldc2_w 407, 3) := dk_20 1 151 (dk_at dksX0_digest_0 12 rfl rfl)
theorem dX0_digest_15 : decode cX0_digest 15 = .ok (.lload_n 1, 1) := dk_31 (dk_at dksX0_digest_0 15 rfl rfl)
theorem dX0_digest_16 : decode cX0_digest 16 = .ok (.lmul, 1) := dk_105 (dk_at dksX0_digest_0 16 rfl rfl)
theorem dX0_digest_17 : decode cX0_digest 17 = .ok (.aload_n 0, 1) := dk_42 (dk_at dksX0_digest_0 17 rfl rfl)
theorem dX0_digest_18 : decode cX0_digest 18 = .ok (.iload_n 3, 1) := dk_29 (dk_at dksX0_digest_0 18 rfl rfl)
theorem dX0_digest_19 : decode cX0_digest 19 = .ok (.invokevirtual 409, 3) := dk_182 1 153 (dk_at dksX0_digest_0 19 rfl rfl)
theorem dX0_digest_22 : decode cX0_digest 22 = .ok (.i2l, 1) := dk_133 (dk_at dksX0_digest_0 22 rfl rfl)
theorem dX0_digest_23 : decode cX0_digest 23 = .ok (.ladd, 1) := dk_97 (dk_at dksX0_digest_0 23 rfl rfl)
theorem dX0_digest_24 : decode cX0_digest 24 = .ok (.lstore_n 1, 1) := dk_64 (dk_at dksX0_digest_1 0 rfl rfl)
theorem dX0_digest_25 : decode cX0_digest 25 = .ok (.iinc 3 1, 3) := dk_132 3 1 (dk_at dksX0_digest_1 1 rfl rfl)
theorem dX0_digest_28 : decode cX0_digest 28 = .ok (.goto (-22), 3) := dk_167 255 234 (dk_at dksX0_digest_1 4 rfl rfl)
theorem dX0_digest_31 : decode cX0_digest 31 = .ok (.iconst 0, 1) := dk_3 (dk_at dksX0_digest_1 7 rfl rfl)
theorem dX0_digest_32 : decode cX0_digest 32 = .ok (.istore_n 3, 1) := dk_62 (dk_at dksX0_digest_1 8 rfl rfl)
theorem dX0_digest_33 : decode cX0_digest 33 = .ok (.iload_n 3, 1) := dk_29 (dk_at dksX0_digest_1 9 rfl rfl)
theorem dX0_digest_34 : decode cX0_digest 34 = .ok (.iconst 2, 1) := dk_5 (dk_at dksX0_digest_1 10 rfl rfl)
theorem dX0_digest_35 : decode cX0_digest 35 = .ok (.if_icmp .ge 25, 3) := dk_162 0 25 (dk_at dksX0_digest_1 11 rfl rfl)
theorem dX0_digest_38 : decode cX0_digest 38 = .ok (.ldc2_w 407, 3) := dk_20 1 151 (dk_at dksX0_digest_1 14 rfl rfl)
theorem dX0_digest_41 : decode cX0_digest 41 = .ok (.lload_n 1, 1) := dk_31 (dk_at dksX0_digest_1 17 rfl rfl)
theorem dX0_digest_42 : decode cX0_digest 42 = .ok (.lmul, 1) := dk_105 (dk_at dksX0_digest_1 18 rfl rfl)
theorem dX0_digest_43 : decode cX0_digest 43 = .ok (.aload_n 0, 1) := dk_42 (dk_at dksX0_digest_1 19 rfl rfl)
theorem dX0_digest_44 : decode cX0_digest 44 = .ok (.iload_n 3, 1) := dk_29 (dk_at dksX0_digest_1 20 rfl rfl)
theorem dX0_digest_45 : decode cX0_digest 45 = .ok (.invokevirtual 141, 3) := dk_182 0 141 (dk_at dksX0_digest_1 21 rfl rfl)
theorem dX0_digest_48 : decode cX0_digest 48 = .ok (.invokevirtual 152, 3) := dk_182 0 152 (dk_at dksX0_digest_2 0 rfl rfl)
theorem dX0_digest_51 : decode cX0_digest 51 = .ok (.i2l, 1) := dk_133 (dk_at dksX0_digest_2 3 rfl rfl)
theorem dX0_digest_52 : decode cX0_digest 52 = .ok (.ladd, 1) := dk_97 (dk_at dksX0_digest_2 4 rfl rfl)
theorem dX0_digest_53 : decode cX0_digest 53 = .ok (.lstore_n 1, 1) := dk_64 (dk_at dksX0_digest_2 5 rfl rfl)
theorem dX0_digest_54 : decode cX0_digest 54 = .ok (.iinc 3 1, 3) := dk_132 3 1 (dk_at dksX0_digest_2 6 rfl rfl)
theorem dX0_digest_57 : decode cX0_digest 57 = .ok (.goto (-24), 3) := dk_167 255 232 (dk_at dksX0_digest_2 9 rfl rfl)
theorem dX0_digest_60 : decode cX0_digest 60 = .ok (.iconst 0, 1) := dk_3 (dk_at dksX0_digest_2 12 rfl rfl)
theorem dX0_digest_61 : decode cX0_digest 61 = .ok (.istore_n 3, 1) := dk_62 (dk_at dksX0_digest_2 13 rfl rfl)
theorem dX0_digest_62 : decode cX0_digest 62 = .ok (.iload_n 3, 1) := dk_29 (dk_at dksX0_digest_2 14 rfl rfl)
theorem dX0_digest_63 : decode cX0_digest 63 = .ok (.aload_n 0, 1) := dk_42 (dk_at dksX0_digest_2 15 rfl rfl)
theorem dX0_digest_64 : decode cX0_digest 64 = .ok (.invokevirtual 166, 3) := dk_182 0 166 (dk_at dksX0_digest_2 16 rfl rfl)
theorem dX0_digest_67 : decode cX0_digest 67 = .ok (.if_icmp .ge 142, 3) := dk_162 0 142 (dk_at dksX0_digest_2 19 rfl rfl)
theorem dX0_digest_70 : decode cX0_digest 70 = .ok (.iconst 0, 1) := dk_3 (dk_at dksX0_digest_2 22 rfl rfl)
theorem dX0_digest_71 : decode cX0_digest 71 = .ok (.istore 4, 2) := dk_54 4 (dk_at dksX0_digest_3 0 rfl rfl)
theorem dX0_digest_73 : decode cX0_digest 73 = .ok (.iload 4, 2) := dk_21 4 (dk_at dksX0_digest_3 2 rfl rfl)
theorem dX0_digest_75 : decode cX0_digest 75 = .ok (.iconst 5, 1) := dk_8 (dk_at dksX0_digest_3 4 rfl rfl)
theorem dX0_digest_76 : decode cX0_digest 76 = .ok (.if_icmp .ge 24, 3) := dk_162 0 24 (dk_at dksX0_digest_3 5 rfl rfl)
theorem dX0_digest_79 : decode cX0_digest 79 = .ok (.ldc2_w 407, 3) := dk_20 1 151 (dk_at dksX0_digest_3 8 rfl rfl)
theorem dX0_digest_82 : decode cX0_digest 82 = .ok (.lload_n 1, 1) := dk_31 (dk_at dksX0_digest_3 11 rfl rfl)
theorem dX0_digest_83 : decode cX0_digest 83 = .ok (.lmul, 1) := dk_105 (dk_at dksX0_digest_3 12 rfl rfl)
theorem dX0_digest_84 : decode cX0_digest 84 = .ok (.aload_n 0, 1) := dk_42 (dk_at dksX0_digest_3 13 rfl rfl)
theorem dX0_digest_85 : decode cX0_digest 85 = .ok (.iload_n 3, 1) := dk_29 (dk_at dksX0_digest_3 14 rfl rfl)
theorem dX0_digest_86 : decode cX0_digest 86 = .ok (.iload 4, 2) := dk_21 4 (dk_at dksX0_digest_3 15 rfl rfl)
theorem dX0_digest_88 : decode cX0_digest 88 = .ok (.invokevirtual 191, 3) := dk_182 0 191 (dk_at dksX0_digest_3 17 rfl rfl)
theorem dX0_digest_91 : decode cX0_digest 91 = .ok (.i2l, 1) := dk_133 (dk_at dksX0_digest_3 20 rfl rfl)
theorem dX0_digest_92 : decode cX0_digest 92 = .ok (.ladd, 1) := dk_97 (dk_at dksX0_digest_3 21 rfl rfl)
theorem dX0_digest_93 : decode cX0_digest 93 = .ok (.lstore_n 1, 1) := dk_64 (dk_at dksX0_digest_3 22 rfl rfl)
theorem dX0_digest_94 : decode cX0_digest 94 = .ok (.iinc 4 1, 3) := dk_132 4 1 (dk_at dksX0_digest_4 0 rfl rfl)
theorem dX0_digest_97 : decode cX0_digest 97 = .ok (.goto (-24), 3) := dk_167 255 232 (dk_at dksX0_digest_4 3 rfl rfl)
theorem dX0_digest_100 : decode cX0_digest 100 = .ok (.ldc2_w 407, 3) := dk_20 1 151 (dk_at dksX0_digest_4 6 rfl rfl)
theorem dX0_digest_103 : decode cX0_digest 103 = .ok (.lload_n 1, 1) := dk_31 (dk_at dksX0_digest_4 9 rfl rfl)
theorem dX0_digest_104 : decode cX0_digest 104 = .ok (.lmul, 1) := dk_105 (dk_at dksX0_digest_4 10 rfl rfl)
theorem dX0_digest_105 : decode cX0_digest 105 = .ok (.aload_n 0, 1) := dk_42 (dk_at dksX0_digest_4 11 rfl rfl)
theorem dX0_digest_106 : decode cX0_digest 106 = .ok (.iload_n 3, 1) := dk_29 (dk_at dksX0_digest_4 12 rfl rfl)
theorem dX0_digest_107 : decode cX0_digest 107 = .ok (.invokevirtual 241, 3) := dk_182 0 241 (dk_at dksX0_digest_4 13 rfl rfl)
theorem dX0_digest_110 : decode cX0_digest 110 = .ok (.i2l, 1) := dk_133 (dk_at dksX0_digest_4 16 rfl rfl)
theorem dX0_digest_111 : decode cX0_digest 111 = .ok (.ladd, 1) := dk_97 (dk_at dksX0_digest_4 17 rfl rfl)
theorem dX0_digest_112 : decode cX0_digest 112 = .ok (.lstore_n 1, 1) := dk_64 (dk_at dksX0_digest_4 18 rfl rfl)
theorem dX0_digest_113 : decode cX0_digest 113 = .ok (.ldc2_w 407, 3) := dk_20 1 151 (dk_at dksX0_digest_4 19 rfl rfl)
theorem dX0_digest_116 : decode cX0_digest 116 = .ok (.lload_n 1, 1) := dk_31 (dk_at dksX0_digest_4 22 rfl rfl)
theorem dX0_digest_117 : decode cX0_digest 117 = .ok (.lmul, 1) := dk_105 (dk_at dksX0_digest_4 23 rfl rfl)
theorem dX0_digest_118 : decode cX0_digest 118 = .ok (.aload_n 0, 1) := dk_42 (dk_at dksX0_digest_5 0 rfl rfl)
theorem dX0_digest_119 : decode cX0_digest 119 = .ok (.iload_n 3, 1) := dk_29 (dk_at dksX0_digest_5 1 rfl rfl)
theorem dX0_digest_120 : decode cX0_digest 120 = .ok (.iconst 2, 1) := dk_5 (dk_at dksX0_digest_5 2 rfl rfl)
theorem dX0_digest_121 : decode cX0_digest 121 = .ok (.invokevirtual 247, 3) := dk_182 0 247 (dk_at dksX0_digest_5 3 rfl rfl)
theorem dX0_digest_124 : decode cX0_digest 124 = .ok (.i2l, 1) := dk_133 (dk_at dksX0_digest_5 6 rfl rfl)
theorem dX0_digest_125 : decode cX0_digest 125 = .ok (.ladd, 1) := dk_97 (dk_at dksX0_digest_5 7 rfl rfl)
theorem dX0_digest_126 : decode cX0_digest 126 = .ok (.lstore_n 1, 1) := dk_64 (dk_at dksX0_digest_5 8 rfl rfl)
theorem dX0_digest_127 : decode cX0_digest 127 = .ok (.ldc2_w 407, 3) := dk_20 1 151 (dk_at dksX0_digest_5 9 rfl rfl)
theorem dX0_digest_130 : decode cX0_digest 130 = .ok (.lload_n 1, 1) := dk_31 (dk_at dksX0_digest_5 12 rfl rfl)
theorem dX0_digest_131 : decode cX0_digest 131 = .ok (.lmul, 1) := dk_105 (dk_at dksX0_digest_5 13 rfl rfl)
theorem dX0_digest_132 : decode cX0_digest 132 = .ok (.aload_n 0, 1) := dk_42 (dk_at dksX0_digest_5 14 rfl rfl)
theorem dX0_digest_133 : decode cX0_digest 133 = .ok (.iload_n 3, 1) := dk_29 (dk_at dksX0_digest_5 15 rfl rfl)
theorem dX0_digest_134 : decode cX0_digest 134 = .ok (.iconst 2, 1) := dk_5 (dk_at dksX0_digest_5 16 rfl rfl)
theorem dX0_digest_135 : decode cX0_digest 135 = .ok (.invokevirtual 308, 3) := dk_182 1 52 (dk_at dksX0_digest_5 17 rfl rfl)
theorem dX0_digest_138 : decode cX0_digest 138 = .ok (.i2l, 1) := dk_133 (dk_at dksX0_digest_5 20 rfl rfl)
theorem dX0_digest_139 : decode cX0_digest 139 = .ok (.ladd, 1) := dk_97 (dk_at dksX0_digest_5 21 rfl rfl)
theorem dX0_digest_140 : decode cX0_digest 140 = .ok (.lstore_n 1, 1) := dk_64 (dk_at dksX0_digest_5 22 rfl rfl)
theorem dX0_digest_141 : decode cX0_digest 141 = .ok (.iconst 0, 1) := dk_3 (dk_at dksX0_digest_5 23 rfl rfl)
theorem dX0_digest_142 : decode cX0_digest 142 = .ok (.istore 4, 2) := dk_54 4 (dk_at dksX0_digest_6 0 rfl rfl)
theorem dX0_digest_144 : decode cX0_digest 144 = .ok (.iload 4, 2) := dk_21 4 (dk_at dksX0_digest_6 2 rfl rfl)
theorem dX0_digest_146 : decode cX0_digest 146 = .ok (.iconst 2, 1) := dk_5 (dk_at dksX0_digest_6 4 rfl rfl)
theorem dX0_digest_147 : decode cX0_digest 147 = .ok (.if_icmp .ge 24, 3) := dk_162 0 24 (dk_at dksX0_digest_6 5 rfl rfl)
theorem dX0_digest_150 : decode cX0_digest 150 = .ok (.ldc2_w 407, 3) := dk_20 1 151 (dk_at dksX0_digest_6 8 rfl rfl)
theorem dX0_digest_153 : decode cX0_digest 153 = .ok (.lload_n 1, 1) := dk_31 (dk_at dksX0_digest_6 11 rfl rfl)
theorem dX0_digest_154 : decode cX0_digest 154 = .ok (.lmul, 1) := dk_105 (dk_at dksX0_digest_6 12 rfl rfl)
theorem dX0_digest_155 : decode cX0_digest 155 = .ok (.aload_n 0, 1) := dk_42 (dk_at dksX0_digest_6 13 rfl rfl)
theorem dX0_digest_156 : decode cX0_digest 156 = .ok (.iload_n 3, 1) := dk_29 (dk_at dksX0_digest_6 14 rfl rfl)
theorem dX0_digest_157 : decode cX0_digest 157 = .ok (.iconst 2, 1) := dk_5 (dk_at dksX0_digest_6 15 rfl rfl)
theorem dX0_digest_158 : decode cX0_digest 158 = .ok (.iload 4, 2) := dk_21 4 (dk_at dksX0_digest_6 16 rfl rfl)
theorem dX0_digest_160 : decode cX0_digest 160 = .ok (.invokevirtual 325, 3) := dk_182 1 69 (dk_at dksX0_digest_6 18 rfl rfl)
theorem dX0_digest_163 : decode cX0_digest 163 = .ok (.ladd, 1) := dk_97 (dk_at dksX0_digest_6 21 rfl rfl)
theorem dX0_digest_164 : decode cX0_digest 164 = .ok (.lstore_n 1, 1) := dk_64 (dk_at dksX0_digest_6 22 rfl rfl)
theorem dX0_digest_165 : decode cX0_digest 165 = .ok (.iinc 4 1, 3) := dk_132 4 1 (dk_at dksX0_digest_7 0 rfl rfl)
theorem dX0_digest_168 : decode cX0_digest 168 = .ok (.goto (-24), 3) := dk_167 255 232 (dk_at dksX0_digest_7 3 rfl rfl)
theorem dX0_digest_171 : decode cX0_digest 171 = .ok (.ldc2_w 407, 3) := dk_20 1 151 (dk_at dksX0_digest_7 6 rfl rfl)
theorem dX0_digest_174 : decode cX0_digest 174 = .ok (.lload_n 1, 1) := dk_31 (dk_at dksX0_digest_7 9 rfl rfl)
theorem dX0_digest_175 : decode cX0_digest 175 = .ok (.lmul, 1) := dk_105 (dk_at dksX0_digest_7 10 rfl rfl)
theorem dX0_digest_176 : decode cX0_digest 176 = .ok (.aload_n 0, 1) := dk_42 (dk_at dksX0_digest_7 11 rfl rfl)
theorem dX0_digest_177 : decode cX0_digest 177 = .ok (.invokevirtual 289, 3) := dk_182 1 33 (dk_at dksX0_digest_7 12 rfl rfl)
theorem dX0_digest_180 : decode cX0_digest 180 = .ok (.getfield 62, 3) := dk_180 0 62 (dk_at dksX0_digest_7 15 rfl rfl)
theorem dX0_digest_183 : decode cX0_digest 183 = .ok (.iload_n 3, 1) := dk_29 (dk_at dksX0_digest_7 18 rfl rfl)
theorem dX0_digest_184 : decode cX0_digest 184 = .ok (.iaload, 1) := dk_46 (dk_at dksX0_digest_7 19 rfl rfl)
theorem dX0_digest_185 : decode cX0_digest 185 = .ok (.i2l, 1) := dk_133 (dk_at dksX0_digest_7 20 rfl rfl)
theorem dX0_digest_186 : decode cX0_digest 186 = .ok (.ladd, 1) := dk_97 (dk_at dksX0_digest_7 21 rfl rfl)
theorem dX0_digest_187 : decode cX0_digest 187 = .ok (.lstore_n 1, 1) := dk_64 (dk_at dksX0_digest_7 22 rfl rfl)
theorem dX0_digest_188 : decode cX0_digest 188 = .ok (.ldc2_w 407, 3) := dk_20 1 151 (dk_at dksX0_digest_8 0 rfl rfl)
theorem dX0_digest_191 : decode cX0_digest 191 = .ok (.lload_n 1, 1) := dk_31 (dk_at dksX0_digest_8 3 rfl rfl)
theorem dX0_digest_192 : decode cX0_digest 192 = .ok (.lmul, 1) := dk_105 (dk_at dksX0_digest_8 4 rfl rfl)
theorem dX0_digest_193 : decode cX0_digest 193 = .ok (.aload_n 0, 1) := dk_42 (dk_at dksX0_digest_8 5 rfl rfl)
theorem dX0_digest_194 : decode cX0_digest 194 = .ok (.iconst 1, 1) := dk_4 (dk_at dksX0_digest_8 6 rfl rfl)
theorem dX0_digest_195 : decode cX0_digest 195 = .ok (.iload_n 3, 1) := dk_29 (dk_at dksX0_digest_8 7 rfl rfl)
theorem dX0_digest_196 : decode cX0_digest 196 = .ok (.ishl, 1) := dk_120 (dk_at dksX0_digest_8 8 rfl rfl)
theorem dX0_digest_197 : decode cX0_digest 197 = .ok (.invokevirtual 363, 3) := dk_182 1 107 (dk_at dksX0_digest_8 9 rfl rfl)
theorem dX0_digest_200 : decode cX0_digest 200 = .ok (.i2l, 1) := dk_133 (dk_at dksX0_digest_8 12 rfl rfl)
theorem dX0_digest_201 : decode cX0_digest 201 = .ok (.ladd, 1) := dk_97 (dk_at dksX0_digest_8 13 rfl rfl)
theorem dX0_digest_202 : decode cX0_digest 202 = .ok (.lstore_n 1, 1) := dk_64 (dk_at dksX0_digest_8 14 rfl rfl)
theorem dX0_digest_203 : decode cX0_digest 203 = .ok (.iinc 3 1, 3) := dk_132 3 1 (dk_at dksX0_digest_8 15 rfl rfl)
theorem dX0_digest_206 : decode cX0_digest 206 = .ok (.goto (-144), 3) := dk_167 255 112 (dk_at dksX0_digest_8 18 rfl rfl)
theorem dX0_digest_209 : decode cX0_digest 209 = .ok (.iconst 0, 1) := dk_3 (dk_at dksX0_digest_8 21 rfl rfl)
theorem dX0_digest_210 : decode cX0_digest 210 = .ok (.istore_n 3, 1) := dk_62 (dk_at dksX0_digest_8 22 rfl rfl)
theorem dX0_digest_211 : decode cX0_digest 211 = .ok (.iload_n 3, 1) := dk_29 (dk_at dksX0_digest_8 23 rfl rfl)
theorem dX0_digest_212 : decode cX0_digest 212 = .ok (.iconst 4, 1) := dk_7 (dk_at dksX0_digest_9 0 rfl rfl)
theorem dX0_digest_213 : decode cX0_digest 213 = .ok (.if_icmp .ge 39, 3) := dk_162 0 39 (dk_at dksX0_digest_9 1 rfl rfl)
theorem dX0_digest_216 : decode cX0_digest 216 = .ok (.iconst 0, 1) := dk_3 (dk_at dksX0_digest_9 4 rfl rfl)
theorem dX0_digest_217 : decode cX0_digest 217 = .ok (.istore 4, 2) := dk_54 4 (dk_at dksX0_digest_9 5 rfl rfl)
theorem dX0_digest_219 : decode cX0_digest 219 = .ok (.iload 4, 2) := dk_21 4 (dk_at dksX0_digest_9 7 rfl rfl)
theorem dX0_digest_221 : decode cX0_digest 221 = .ok (.iconst 3, 1) := dk_6 (dk_at dksX0_digest_9 9 rfl rfl)
theorem dX0_digest_222 : decode cX0_digest 222 = .ok (.if_icmp .ge 24, 3) := dk_162 0 24 (dk_at dksX0_digest_9 10 rfl rfl)
theorem dX0_digest_225 : decode cX0_digest 225 = .ok (.ldc2_w 407, 3) := dk_20 1 151 (dk_at dksX0_digest_9 13 rfl rfl)
theorem dX0_digest_228 : decode cX0_digest 228 = .ok (.lload_n 1, 1) := dk_31 (dk_at dksX0_digest_9 16 rfl rfl)
theorem dX0_digest_229 : decode cX0_digest 229 = .ok (.lmul, 1) := dk_105 (dk_at dksX0_digest_9 17 rfl rfl)
theorem dX0_digest_230 : decode cX0_digest 230 = .ok (.aload_n 0, 1) := dk_42 (dk_at dksX0_digest_9 18 rfl rfl)
theorem dX0_digest_231 : decode cX0_digest 231 = .ok (.iload_n 3, 1) := dk_29 (dk_at dksX0_digest_9 19 rfl rfl)
theorem dX0_digest_232 : decode cX0_digest 232 = .ok (.iload 4, 2) := dk_21 4 (dk_at dksX0_digest_9 20 rfl rfl)
theorem dX0_digest_234 : decode cX0_digest 234 = .ok (.invokevirtual 204, 3) := dk_182 0 204 (dk_at dksX0_digest_10 0 rfl rfl)
theorem dX0_digest_237 : decode cX0_digest 237 = .ok (.i2l, 1) := dk_133 (dk_at dksX0_digest_10 3 rfl rfl)
theorem dX0_digest_238 : decode cX0_digest 238 = .ok (.ladd, 1) := dk_97 (dk_at dksX0_digest_10 4 rfl rfl)
theorem dX0_digest_239 : decode cX0_digest 239 = .ok (.lstore_n 1, 1) := dk_64 (dk_at dksX0_digest_10 5 rfl rfl)
theorem dX0_digest_240 : decode cX0_digest 240 = .ok (.iinc 4 1, 3) := dk_132 4 1 (dk_at dksX0_digest_10 6 rfl rfl)
theorem dX0_digest_243 : decode cX0_digest 243 = .ok (.goto (-24), 3) := dk_167 255 232 (dk_at dksX0_digest_10 9 rfl rfl)
theorem dX0_digest_246 : decode cX0_digest 246 = .ok (.iinc 3 1, 3) := dk_132 3 1 (dk_at dksX0_digest_10 12 rfl rfl)
theorem dX0_digest_249 : decode cX0_digest 249 = .ok (.goto (-38), 3) := dk_167 255 218 (dk_at dksX0_digest_10 15 rfl rfl)
theorem dX0_digest_252 : decode cX0_digest 252 = .ok (.ldc2_w 407, 3) := dk_20 1 151 (dk_at dksX0_digest_10 18 rfl rfl)
theorem dX0_digest_255 : decode cX0_digest 255 = .ok (.lload_n 1, 1) := dk_31 (dk_at dksX0_digest_10 21 rfl rfl)
theorem dX0_digest_256 : decode cX0_digest 256 = .ok (.lmul, 1) := dk_105 (dk_at dksX0_digest_10 22 rfl rfl)
theorem dX0_digest_257 : decode cX0_digest 257 = .ok (.aload_n 0, 1) := dk_42 (dk_at dksX0_digest_10 23 rfl rfl)
theorem dX0_digest_258 : decode cX0_digest 258 = .ok (.invokevirtual 289, 3) := dk_182 1 33 (dk_at dksX0_digest_11 0 rfl rfl)
theorem dX0_digest_261 : decode cX0_digest 261 = .ok (.getfield 282, 3) := dk_180 1 26 (dk_at dksX0_digest_11 3 rfl rfl)
theorem dX0_digest_264 : decode cX0_digest 264 = .ok (.i2l, 1) := dk_133 (dk_at dksX0_digest_11 6 rfl rfl)
theorem dX0_digest_265 : decode cX0_digest 265 = .ok (.ladd, 1) := dk_97 (dk_at dksX0_digest_11 7 rfl rfl)
theorem dX0_digest_266 : decode cX0_digest 266 = .ok (.lstore_n 1, 1) := dk_64 (dk_at dksX0_digest_11 8 rfl rfl)
theorem dX0_digest_267 : decode cX0_digest 267 = .ok (.ldc2_w 407, 3) := dk_20 1 151 (dk_at dksX0_digest_11 9 rfl rfl)
theorem dX0_digest_270 : decode cX0_digest 270 = .ok (.lload_n 1, 1) := dk_31 (dk_at dksX0_digest_11 12 rfl rfl)
theorem dX0_digest_271 : decode cX0_digest 271 = .ok (.lmul, 1) := dk_105 (dk_at dksX0_digest_11 13 rfl rfl)
theorem dX0_digest_272 : decode cX0_digest 272 = .ok (.aload_n 0, 1) := dk_42 (dk_at dksX0_digest_11 14 rfl rfl)
theorem dX0_digest_273 : decode cX0_digest 273 = .ok (.invokevirtual 289, 3) := dk_182 1 33 (dk_at dksX0_digest_11 15 rfl rfl)
theorem dX0_digest_276 : decode cX0_digest 276 = .ok (.getfield 283, 3) := dk_180 1 27 (dk_at dksX0_digest_11 18 rfl rfl)
theorem dX0_digest_279 : decode cX0_digest 279 = .ok (.i2l, 1) := dk_133 (dk_at dksX0_digest_11 21 rfl rfl)
theorem dX0_digest_280 : decode cX0_digest 280 = .ok (.ladd, 1) := dk_97 (dk_at dksX0_digest_11 22 rfl rfl)
theorem dX0_digest_281 : decode cX0_digest 281 = .ok (.lstore_n 1, 1) := dk_64 (dk_at dksX0_digest_11 23 rfl rfl)
theorem dX0_digest_282 : decode cX0_digest 282 = .ok (.iconst 0, 1) := dk_3 (dk_at dksX0_digest_12 0 rfl rfl)
theorem dX0_digest_283 : decode cX0_digest 283 = .ok (.istore_n 3, 1) := dk_62 (dk_at dksX0_digest_12 1 rfl rfl)
theorem dX0_digest_284 : decode cX0_digest 284 = .ok (.iload_n 3, 1) := dk_29 (dk_at dksX0_digest_12 2 rfl rfl)
theorem dX0_digest_285 : decode cX0_digest 285 = .ok (.iconst 3, 1) := dk_6 (dk_at dksX0_digest_12 3 rfl rfl)
theorem dX0_digest_286 : decode cX0_digest 286 = .ok (.if_icmp .ge 22, 3) := dk_162 0 22 (dk_at dksX0_digest_12 4 rfl rfl)
theorem dX0_digest_289 : decode cX0_digest 289 = .ok (.ldc2_w 407, 3) := dk_20 1 151 (dk_at dksX0_digest_12 7 rfl rfl)
theorem dX0_digest_292 : decode cX0_digest 292 = .ok (.lload_n 1, 1) := dk_31 (dk_at dksX0_digest_12 10 rfl rfl)
theorem dX0_digest_293 : decode cX0_digest 293 = .ok (.lmul, 1) := dk_105 (dk_at dksX0_digest_12 11 rfl rfl)
theorem dX0_digest_294 : decode cX0_digest 294 = .ok (.aload_n 0, 1) := dk_42 (dk_at dksX0_digest_12 12 rfl rfl)
theorem dX0_digest_295 : decode cX0_digest 295 = .ok (.iload_n 3, 1) := dk_29 (dk_at dksX0_digest_12 13 rfl rfl)
theorem dX0_digest_296 : decode cX0_digest 296 = .ok (.invokevirtual 305, 3) := dk_182 1 49 (dk_at dksX0_digest_12 14 rfl rfl)
theorem dX0_digest_299 : decode cX0_digest 299 = .ok (.i2l, 1) := dk_133 (dk_at dksX0_digest_12 17 rfl rfl)
theorem dX0_digest_300 : decode cX0_digest 300 = .ok (.ladd, 1) := dk_97 (dk_at dksX0_digest_12 18 rfl rfl)
theorem dX0_digest_301 : decode cX0_digest 301 = .ok (.lstore_n 1, 1) := dk_64 (dk_at dksX0_digest_12 19 rfl rfl)
theorem dX0_digest_302 : decode cX0_digest 302 = .ok (.iinc 3 1, 3) := dk_132 3 1 (dk_at dksX0_digest_12 20 rfl rfl)
theorem dX0_digest_305 : decode cX0_digest 305 = .ok (.goto (-21), 3) := dk_167 255 235 (dk_at dksX0_digest_13 0 rfl rfl)
theorem dX0_digest_308 : decode cX0_digest 308 = .ok (.iconst 0, 1) := dk_3 (dk_at dksX0_digest_13 3 rfl rfl)
theorem dX0_digest_309 : decode cX0_digest 309 = .ok (.istore_n 3, 1) := dk_62 (dk_at dksX0_digest_13 4 rfl rfl)
theorem dX0_digest_310 : decode cX0_digest 310 = .ok (.iload_n 3, 1) := dk_29 (dk_at dksX0_digest_13 5 rfl rfl)
theorem dX0_digest_311 : decode cX0_digest 311 = .ok (.iconst 2, 1) := dk_5 (dk_at dksX0_digest_13 6 rfl rfl)
theorem dX0_digest_312 : decode cX0_digest 312 = .ok (.if_icmp .ge 22, 3) := dk_162 0 22 (dk_at dksX0_digest_13 7 rfl rfl)
theorem dX0_digest_315 : decode cX0_digest 315 = .ok (.ldc2_w 407, 3) := dk_20 1 151 (dk_at dksX0_digest_13 10 rfl rfl)
theorem dX0_digest_318 : decode cX0_digest 318 = .ok (.lload_n 1, 1) := dk_31 (dk_at dksX0_digest_13 13 rfl rfl)
theorem dX0_digest_319 : decode cX0_digest 319 = .ok (.lmul, 1) := dk_105 (dk_at dksX0_digest_13 14 rfl rfl)
theorem dX0_digest_320 : decode cX0_digest 320 = .ok (.aload_n 0, 1) := dk_42 (dk_at dksX0_digest_13 15 rfl rfl)
theorem dX0_digest_321 : decode cX0_digest 321 = .ok (.iload_n 3, 1) := dk_29 (dk_at dksX0_digest_13 16 rfl rfl)
theorem dX0_digest_322 : decode cX0_digest 322 = .ok (.invokevirtual 350, 3) := dk_182 1 94 (dk_at dksX0_digest_13 17 rfl rfl)
theorem dX0_digest_325 : decode cX0_digest 325 = .ok (.i2l, 1) := dk_133 (dk_at dksX0_digest_13 20 rfl rfl)
theorem dX0_digest_326 : decode cX0_digest 326 = .ok (.ladd, 1) := dk_97 (dk_at dksX0_digest_13 21 rfl rfl)
theorem dX0_digest_327 : decode cX0_digest 327 = .ok (.lstore_n 1, 1) := dk_64 (dk_at dksX0_digest_13 22 rfl rfl)
theorem dX0_digest_328 : decode cX0_digest 328 = .ok (.iinc 3 1, 3) := dk_132 3 1 (dk_at dksX0_digest_14 0 rfl rfl)
theorem dX0_digest_331 : decode cX0_digest 331 = .ok (.goto (-21), 3) := dk_167 255 235 (dk_at dksX0_digest_14 3 rfl rfl)
theorem dX0_digest_334 : decode cX0_digest 334 = .ok (.ldc2_w 407, 3) := dk_20 1 151 (dk_at dksX0_digest_14 6 rfl rfl)
theorem dX0_digest_337 : decode cX0_digest 337 = .ok (.lload_n 1, 1) := dk_31 (dk_at dksX0_digest_14 9 rfl rfl)
theorem dX0_digest_338 : decode cX0_digest 338 = .ok (.lmul, 1) := dk_105 (dk_at dksX0_digest_14 10 rfl rfl)
theorem dX0_digest_339 : decode cX0_digest 339 = .ok (.aload_n 0, 1) := dk_42 (dk_at dksX0_digest_14 11 rfl rfl)
theorem dX0_digest_340 : decode cX0_digest 340 = .ok (.invokevirtual 369, 3) := dk_182 1 113 (dk_at dksX0_digest_14 12 rfl rfl)
theorem dX0_digest_343 : decode cX0_digest 343 = .ok (.i2l, 1) := dk_133 (dk_at dksX0_digest_14 15 rfl rfl)
theorem dX0_digest_344 : decode cX0_digest 344 = .ok (.ladd, 1) := dk_97 (dk_at dksX0_digest_14 16 rfl rfl)
theorem dX0_digest_345 : decode cX0_digest 345 = .ok (.lstore_n 1, 1) := dk_64 (dk_at dksX0_digest_14 17 rfl rfl)
theorem dX0_digest_346 : decode cX0_digest 346 = .ok (.iconst 0, 1) := dk_3 (dk_at dksX0_digest_14 18 rfl rfl)
theorem dX0_digest_347 : decode cX0_digest 347 = .ok (.istore_n 3, 1) := dk_62 (dk_at dksX0_digest_14 19 rfl rfl)
theorem dX0_digest_348 : decode cX0_digest 348 = .ok (.iload_n 3, 1) := dk_29 (dk_at dksX0_digest_14 20 rfl rfl)
theorem dX0_digest_349 : decode cX0_digest 349 = .ok (.iconst 2, 1) := dk_5 (dk_at dksX0_digest_14 21 rfl rfl)
theorem dX0_digest_350 : decode cX0_digest 350 = .ok (.if_icmp .ge 22, 3) := dk_162 0 22 (dk_at dksX0_digest_15 0 rfl rfl)
theorem dX0_digest_353 : decode cX0_digest 353 = .ok (.ldc2_w 407, 3) := dk_20 1 151 (dk_at dksX0_digest_15 3 rfl rfl)
theorem dX0_digest_356 : decode cX0_digest 356 = .ok (.lload_n 1, 1) := dk_31 (dk_at dksX0_digest_15 6 rfl rfl)
theorem dX0_digest_357 : decode cX0_digest 357 = .ok (.lmul, 1) := dk_105 (dk_at dksX0_digest_15 7 rfl rfl)
theorem dX0_digest_358 : decode cX0_digest 358 = .ok (.aload_n 0, 1) := dk_42 (dk_at dksX0_digest_15 8 rfl rfl)
theorem dX0_digest_359 : decode cX0_digest 359 = .ok (.iconst 2, 1) := dk_5 (dk_at dksX0_digest_15 9 rfl rfl)
theorem dX0_digest_360 : decode cX0_digest 360 = .ok (.iload_n 3, 1) := dk_29 (dk_at dksX0_digest_15 10 rfl rfl)
theorem dX0_digest_361 : decode cX0_digest 361 = .ok (.invokevirtual 378, 3) := dk_182 1 122 (dk_at dksX0_digest_15 11 rfl rfl)
theorem dX0_digest_364 : decode cX0_digest 364 = .ok (.ladd, 1) := dk_97 (dk_at dksX0_digest_15 14 rfl rfl)
theorem dX0_digest_365 : decode cX0_digest 365 = .ok (.lstore_n 1, 1) := dk_64 (dk_at dksX0_digest_15 15 rfl rfl)
theorem dX0_digest_366 : decode cX0_digest 366 = .ok (.iinc 3 1, 3) := dk_132 3 1 (dk_at dksX0_digest_15 16 rfl rfl)
theorem dX0_digest_369 : decode cX0_digest 369 = .ok (.goto (-21), 3) := dk_167 255 235 (dk_at dksX0_digest_15 19 rfl rfl)
theorem dX0_digest_372 : decode cX0_digest 372 = .ok (.lload_n 1, 1) := dk_31 (dk_at dksX0_digest_15 22 rfl rfl)
theorem dX0_digest_373 : decode cX0_digest 373 = .ok (.lreturn, 1) := dk_173 (dk_at dksX0_digest_15 23 rfl rfl)
theorem q79 : (Jvm.Cond.initialized "SecondChances") ∈ lw_all := lw_g (lw_at lw_m1 1 rfl) rfl
theorem q108 : (Jvm.Cond.instantiable "SecondChances" (20 : Nat)) ∈ lw_all := lw_g (lw_at lw_m1 30 rfl) rfl
theorem q110 : (Jvm.Cond.instanceMethod ({ cls := "SecondChances", name := "<init>", desc := "()V" } : Jvm.MethodName)) ∈ lw_all := lw_g (lw_at lw_m1 32 rfl) rfl
theorem q111 : (Jvm.Cond.code ({ cls := "SecondChances", name := "<init>", desc := "()V" } : Jvm.MethodName) prog_1_method_1_code (1 : Nat) (Option.none : Option Jvm.ClassFile.FieldType)) ∈ lw_all := lw_g (lw_at lw_m1 33 rfl) rfl
theorem q112 : (Jvm.Cond.methodLink "SecondChances" (5 : Nat) ({ cls := "java/lang/Object", name := "<init>", desc := "()V" } : Jvm.MethodName)) ∈ lw_all := lw_g (lw_at lw_m1 34 rfl) rfl
theorem q115 : (Jvm.Cond.classLink "SecondChances" (11 : Nat) "SecondChances$Person") ∈ lw_all := lw_g (lw_at lw_m1 37 rfl) rfl
theorem q118 : (Jvm.Cond.methodLinkNest "SecondChances" (13 : Nat) ({ cls := "SecondChances$Person", name := "<init>", desc := "()V" } : Jvm.MethodName) "SecondChances") ∈ lw_tbl := lw_at lw_m1 40 rfl
theorem q123 : (Jvm.Cond.fieldLinkNest "SecondChances" (104 : Nat) "SecondChances$Person" "facts" "[I" "SecondChances") ∈ lw_tbl := lw_at lw_m1 45 rfl
theorem q128 : (Jvm.Cond.classLink "SecondChances" (31 : Nat) "SecondChances$Deeds") ∈ lw_all := lw_g (lw_at lw_m1 50 rfl) rfl
theorem q130 : (Jvm.Cond.methodLink "SecondChances" (33 : Nat) ({ cls := "SecondChances$Deeds", name := "<init>", desc := "()V" } : Jvm.MethodName)) ∈ lw_all := lw_g (lw_at lw_m1 52 rfl) rfl
theorem q164 : (Jvm.Cond.fieldLinkNest "SecondChances" (157 : Nat) "SecondChances$Deeds" "row" "Ljava/util/ArrayList;" "SecondChances") ∈ lw_tbl := lw_at lw_m1 86 rfl
theorem q167 : (Jvm.Cond.fieldLinkNest "SecondChances" (399 : Nat) "SecondChances$Text" "typed" "I" "SecondChances") ∈ lw_tbl := lw_at lw_m1 89 rfl
theorem q184 : (Jvm.Cond.classLink "SecondChances" (38 : Nat) "SecondChances$Rules") ∈ lw_all := lw_g (lw_at lw_m1 106 rfl) rfl
theorem q186 : (Jvm.Cond.methodLink "SecondChances" (40 : Nat) ({ cls := "SecondChances$Rules", name := "<init>", desc := "()V" } : Jvm.MethodName)) ∈ lw_all := lw_g (lw_at lw_m1 108 rfl) rfl
theorem q191 : (Jvm.Cond.fieldLinkNest "SecondChances" (194 : Nat) "SecondChances$Rules" "needs" "[I" "SecondChances") ∈ lw_tbl := lw_at lw_m1 113 rfl
theorem q193 : (Jvm.Cond.fieldLinkNest "SecondChances" (197 : Nat) "SecondChances$Rules" "weather" "[Z" "SecondChances") ∈ lw_tbl := lw_at lw_m1 115 rfl
theorem q195 : (Jvm.Cond.fieldLinkNest "SecondChances" (200 : Nat) "SecondChances$Rules" "place" "[Z" "SecondChances") ∈ lw_tbl := lw_at lw_m1 117 rfl
theorem q197 : (Jvm.Cond.fieldLinkNest "SecondChances" (402 : Nat) "SecondChances$Rules" "parts" "I" "SecondChances") ∈ lw_tbl := lw_at lw_m1 119 rfl
theorem q213 : (Jvm.Cond.classLink "SecondChances" (45 : Nat) "[[I") ∈ lw_all := lw_g (lw_at lw_m1 135 rfl) rfl
theorem q215 : (Jvm.Cond.classLink "SecondChances" (65 : Nat) "java/util/ArrayList") ∈ lw_all := lw_g (lw_at lw_m1 137 rfl) rfl
theorem q216 : (Jvm.Cond.methodLink "SecondChances" (67 : Nat) ({ cls := "java/util/ArrayList", name := "<init>", desc := "()V" } : Jvm.MethodName)) ∈ lw_all := lw_g (lw_at lw_m1 138 rfl) rfl
theorem q217 : (Jvm.Cond.classLink "SecondChances" (75 : Nat) "SecondChances$Sheet") ∈ lw_all := lw_g (lw_at lw_m1 139 rfl) rfl
theorem q220 : (Jvm.Cond.methodLinkNest "SecondChances" (77 : Nat) ({ cls := "SecondChances$Sheet", name := "<init>", desc := "()V" } : Jvm.MethodName) "SecondChances") ∈ lw_tbl := lw_at lw_m1 142 rfl
theorem q225 : (Jvm.Cond.fieldLinkNest "SecondChances" (119 : Nat) "SecondChances$Sheet" "row" "Ljava/lang/Object;" "SecondChances") ∈ lw_tbl := lw_at lw_m1 147 rfl
theorem q229 : (Jvm.Cond.fieldLink "SecondChances" (84 : Nat) "SecondChances" "latest" "I") ∈ lw_all := lw_g (lw_at lw_m1 151 rfl) rfl
theorem q230 : (Jvm.Cond.fieldLink "SecondChances" (14 : Nat) "SecondChances" "people" "[LSecondChances$Person;") ∈ lw_all := lw_g (lw_at lw_m1 152 rfl) rfl
theorem q231 : (Jvm.Cond.fieldLink "SecondChances" (20 : Nat) "SecondChances" "weather" "[I") ∈ lw_all := lw_g (lw_at lw_m1 153 rfl) rfl
theorem q232 : (Jvm.Cond.fieldLink "SecondChances" (24 : Nat) "SecondChances" "settings" "[I") ∈ lw_all := lw_g (lw_at lw_m1 154 rfl) rfl
theorem q233 : (Jvm.Cond.fieldLink "SecondChances" (27 : Nat) "SecondChances" "stale" "Z") ∈ lw_all := lw_g (lw_at lw_m1 155 rfl) rfl
theorem q234 : (Jvm.Cond.fieldLink "SecondChances" (34 : Nat) "SecondChances" "deeds" "LSecondChances$Deeds;") ∈ lw_all := lw_g (lw_at lw_m1 156 rfl) rfl
theorem q235 : (Jvm.Cond.fieldLink "SecondChances" (41 : Nat) "SecondChances" "rules" "LSecondChances$Rules;") ∈ lw_all := lw_g (lw_at lw_m1 157 rfl) rfl
theorem q236 : (Jvm.Cond.fieldLink "SecondChances" (47 : Nat) "SecondChances" "together" "[[I") ∈ lw_all := lw_g (lw_at lw_m1 158 rfl) rfl
theorem q237 : (Jvm.Cond.fieldLink "SecondChances" (50 : Nat) "SecondChances" "worths" "[I") ∈ lw_all := lw_g (lw_at lw_m1 159 rfl) rfl
theorem q238 : (Jvm.Cond.fieldLink "SecondChances" (53 : Nat) "SecondChances" "cheapest" "[I") ∈ lw_all := lw_g (lw_at lw_m1 160 rfl) rfl
theorem q239 : (Jvm.Cond.fieldLink "SecondChances" (56 : Nat) "SecondChances" "before" "[I") ∈ lw_all := lw_g (lw_at lw_m1 161 rfl) rfl
theorem q240 : (Jvm.Cond.fieldLink "SecondChances" (59 : Nat) "SecondChances" "fixed" "[I") ∈ lw_all := lw_g (lw_at lw_m1 162 rfl) rfl
theorem q241 : (Jvm.Cond.fieldLink "SecondChances" (267 : Nat) "SecondChances" "bestWorth" "I") ∈ lw_all := lw_g (lw_at lw_m1 163 rfl) rfl
theorem q242 : (Jvm.Cond.fieldLink "SecondChances" (270 : Nat) "SecondChances" "bestCost" "I") ∈ lw_all := lw_g (lw_at lw_m1 164 rfl) rfl
theorem q243 : (Jvm.Cond.fieldLink "SecondChances" (282 : Nat) "SecondChances" "worth" "I") ∈ lw_all := lw_g (lw_at lw_m1 165 rfl) rfl
theorem q244 : (Jvm.Cond.fieldLink "SecondChances" (283 : Nat) "SecondChances" "cost" "I") ∈ lw_all := lw_g (lw_at lw_m1 166 rfl) rfl
theorem q245 : (Jvm.Cond.fieldLink "SecondChances" (62 : Nat) "SecondChances" "row" "[I") ∈ lw_all := lw_g (lw_at lw_m1 167 rfl) rfl
theorem q246 : (Jvm.Cond.fieldLink "SecondChances" (68 : Nat) "SecondChances" "sights" "Ljava/util/ArrayList;") ∈ lw_all := lw_g (lw_at lw_m1 168 rfl) rfl
theorem q247 : (Jvm.Cond.fieldLink "SecondChances" (72 : Nat) "SecondChances" "pairs" "Ljava/util/ArrayList;") ∈ lw_all := lw_g (lw_at lw_m1 169 rfl) rfl
theorem q248 : (Jvm.Cond.fieldLink "SecondChances" (78 : Nat) "SecondChances" "sheets" "[LSecondChances$Sheet;") ∈ lw_all := lw_g (lw_at lw_m1 170 rfl) rfl
theorem q249 : (Jvm.Cond.lays "SecondChances" "SecondChances" "latest" "I") ∈ lw_all := lw_g (lw_at lw_m1 171 rfl) rfl
theorem q250 : (Jvm.Cond.soleField "SecondChances" "latest") ∈ lw_all := lw_g (lw_at lw_m1 172 rfl) rfl
theorem q251 : (Jvm.Cond.laysFinal "SecondChances" "SecondChances" "people" "[LSecondChances$Person;") ∈ lw_all := lw_g (lw_at lw_m1 173 rfl) rfl
theorem q252 : (Jvm.Cond.soleField "SecondChances" "people") ∈ lw_all := lw_g (lw_at lw_m1 174 rfl) rfl
theorem q253 : (Jvm.Cond.laysFinal "SecondChances" "SecondChances" "weather" "[I") ∈ lw_all := lw_g (lw_at lw_m1 175 rfl) rfl
theorem q254 : (Jvm.Cond.soleField "SecondChances" "weather") ∈ lw_all := lw_g (lw_at lw_m1 176 rfl) rfl
theorem q255 : (Jvm.Cond.laysFinal "SecondChances" "SecondChances" "settings" "[I") ∈ lw_all := lw_g (lw_at lw_m1 177 rfl) rfl
theorem q256 : (Jvm.Cond.soleField "SecondChances" "settings") ∈ lw_all := lw_g (lw_at lw_m1 178 rfl) rfl
theorem q257 : (Jvm.Cond.lays "SecondChances" "SecondChances" "stale" "Z") ∈ lw_all := lw_g (lw_at lw_m1 179 rfl) rfl
theorem q258 : (Jvm.Cond.soleField "SecondChances" "stale") ∈ lw_all := lw_g (lw_at lw_m1 180 rfl) rfl
theorem q259 : (Jvm.Cond.laysFinal "SecondChances" "SecondChances" "deeds" "LSecondChances$Deeds;") ∈ lw_all := lw_g (lw_at lw_m1 181 rfl) rfl
theorem q260 : (Jvm.Cond.soleField "SecondChances" "deeds") ∈ lw_all := lw_g (lw_at lw_m1 182 rfl) rfl
theorem q261 : (Jvm.Cond.laysFinal "SecondChances" "SecondChances" "rules" "LSecondChances$Rules;") ∈ lw_all := lw_g (lw_at lw_m1 183 rfl) rfl
theorem q262 : (Jvm.Cond.soleField "SecondChances" "rules") ∈ lw_all := lw_g (lw_at lw_m1 184 rfl) rfl
theorem q263 : (Jvm.Cond.laysFinal "SecondChances" "SecondChances" "together" "[[I") ∈ lw_all := lw_g (lw_at lw_m1 185 rfl) rfl
theorem q264 : (Jvm.Cond.soleField "SecondChances" "together") ∈ lw_all := lw_g (lw_at lw_m1 186 rfl) rfl
theorem q265 : (Jvm.Cond.laysFinal "SecondChances" "SecondChances" "worths" "[I") ∈ lw_all := lw_g (lw_at lw_m1 187 rfl) rfl
theorem q266 : (Jvm.Cond.soleField "SecondChances" "worths") ∈ lw_all := lw_g (lw_at lw_m1 188 rfl) rfl
theorem q267 : (Jvm.Cond.laysFinal "SecondChances" "SecondChances" "cheapest" "[I") ∈ lw_all := lw_g (lw_at lw_m1 189 rfl) rfl
theorem q268 : (Jvm.Cond.soleField "SecondChances" "cheapest") ∈ lw_all := lw_g (lw_at lw_m1 190 rfl) rfl
theorem q269 : (Jvm.Cond.laysFinal "SecondChances" "SecondChances" "before" "[I") ∈ lw_all := lw_g (lw_at lw_m1 191 rfl) rfl
theorem q270 : (Jvm.Cond.soleField "SecondChances" "before") ∈ lw_all := lw_g (lw_at lw_m1 192 rfl) rfl
theorem q271 : (Jvm.Cond.laysFinal "SecondChances" "SecondChances" "fixed" "[I") ∈ lw_all := lw_g (lw_at lw_m1 193 rfl) rfl
theorem q272 : (Jvm.Cond.soleField "SecondChances" "fixed") ∈ lw_all := lw_g (lw_at lw_m1 194 rfl) rfl
theorem q273 : (Jvm.Cond.lays "SecondChances" "SecondChances" "bestWorth" "I") ∈ lw_all := lw_g (lw_at lw_m1 195 rfl) rfl
theorem q274 : (Jvm.Cond.soleField "SecondChances" "bestWorth") ∈ lw_all := lw_g (lw_at lw_m1 196 rfl) rfl
theorem q275 : (Jvm.Cond.lays "SecondChances" "SecondChances" "bestCost" "I") ∈ lw_all := lw_g (lw_at lw_m1 197 rfl) rfl
theorem q276 : (Jvm.Cond.soleField "SecondChances" "bestCost") ∈ lw_all := lw_g (lw_at lw_m1 198 rfl) rfl
theorem q277 : (Jvm.Cond.lays "SecondChances" "SecondChances" "worth" "I") ∈ lw_all := lw_g (lw_at lw_m1 199 rfl) rfl
theorem q278 : (Jvm.Cond.soleField "SecondChances" "worth") ∈ lw_all := lw_g (lw_at lw_m1 200 rfl) rfl
theorem q279 : (Jvm.Cond.lays "SecondChances" "SecondChances" "cost" "I") ∈ lw_all := lw_g (lw_at lw_m1 201 rfl) rfl
theorem q280 : (Jvm.Cond.soleField "SecondChances" "cost") ∈ lw_all := lw_g (lw_at lw_m1 202 rfl) rfl
theorem q281 : (Jvm.Cond.laysFinal "SecondChances" "SecondChances" "row" "[I") ∈ lw_all := lw_g (lw_at lw_m1 203 rfl) rfl
theorem q282 : (Jvm.Cond.soleField "SecondChances" "row") ∈ lw_all := lw_g (lw_at lw_m1 204 rfl) rfl
theorem q283 : (Jvm.Cond.laysFinal "SecondChances" "SecondChances" "sights" "Ljava/util/ArrayList;") ∈ lw_all := lw_g (lw_at lw_m1 205 rfl) rfl
theorem q284 : (Jvm.Cond.soleField "SecondChances" "sights") ∈ lw_all := lw_g (lw_at lw_m1 206 rfl) rfl
theorem q285 : (Jvm.Cond.laysFinal "SecondChances" "SecondChances" "pairs" "Ljava/util/ArrayList;") ∈ lw_all := lw_g (lw_at lw_m1 207 rfl) rfl
theorem q286 : (Jvm.Cond.soleField "SecondChances" "pairs") ∈ lw_all := lw_g (lw_at lw_m1 208 rfl) rfl
theorem q287 : (Jvm.Cond.laysFinal "SecondChances" "SecondChances" "sheets" "[LSecondChances$Sheet;") ∈ lw_all := lw_g (lw_at lw_m1 209 rfl) rfl
theorem q288 : (Jvm.Cond.soleField "SecondChances" "sheets") ∈ lw_all := lw_g (lw_at lw_m1 210 rfl) rfl
theorem q289 : (Jvm.Cond.superclass "SecondChances" "java/lang/Object") ∈ lw_all := lw_g (lw_at lw_m1 211 rfl) rfl
theorem q291 : (Jvm.Cond.instanceMethod ({ cls := "SecondChances", name := "person", desc := "(III)I" } : Jvm.MethodName)) ∈ lw_all := lw_g (lw_at lw_m1 213 rfl) rfl
theorem q292 : (Jvm.Cond.selects "SecondChances" ({ cls := "SecondChances", name := "person", desc := "(III)I" } : Jvm.MethodName) ({ cls := "SecondChances", name := "person", desc := "(III)I" } : Jvm.MethodName)) ∈ lw_all := lw_g (lw_at lw_m1 214 rfl) rfl
theorem q293 : (Jvm.Cond.code ({ cls := "SecondChances", name := "person", desc := "(III)I" } : Jvm.MethodName) prog_1_method_10_code (5 : Nat) (Option.some Jvm.ClassFile.FieldType.int)) ∈ lw_all := lw_g (lw_at lw_m1 215 rfl) rfl
theorem q294 : (Jvm.Cond.methodLink "SecondChances" (95 : Nat) ({ cls := "SecondChances", name := "isPerson", desc := "(I)Z" } : Jvm.MethodName)) ∈ lw_all := lw_g (lw_at lw_m1 216 rfl) rfl
theorem q295 : (Jvm.Cond.static ({ cls := "SecondChances", name := "isPerson", desc := "(I)Z" } : Jvm.MethodName)) ∈ lw_all := lw_g (lw_at lw_m1 217 rfl) rfl
theorem q296 : (Jvm.Cond.code ({ cls := "SecondChances", name := "isPerson", desc := "(I)Z" } : Jvm.MethodName) prog_1_method_9_code (1 : Nat) (Option.some Jvm.ClassFile.FieldType.boolean)) ∈ lw_all := lw_g (lw_at lw_m1 218 rfl) rfl
theorem q297 : (Jvm.Cond.constantLong "SecondChances" (93 : Nat) (7 : Int64)) ∈ lw_all := lw_g (lw_at lw_m1 219 rfl) rfl
theorem q298 : (Jvm.Cond.methodLink "SecondChances" (89 : Nat) ({ cls := "SecondChances", name := "in", desc := "(JJJ)Z" } : Jvm.MethodName)) ∈ lw_all := lw_g (lw_at lw_m1 220 rfl) rfl
theorem q299 : (Jvm.Cond.static ({ cls := "SecondChances", name := "in", desc := "(JJJ)Z" } : Jvm.MethodName)) ∈ lw_all := lw_g (lw_at lw_m1 221 rfl) rfl
theorem q300 : (Jvm.Cond.code ({ cls := "SecondChances", name := "in", desc := "(JJJ)Z" } : Jvm.MethodName) prog_1_method_2_code (6 : Nat) (Option.some Jvm.ClassFile.FieldType.boolean)) ∈ lw_all := lw_g (lw_at lw_m1 222 rfl) rfl
theorem q301 : (Jvm.Cond.constantLong "SecondChances" (99 : Nat) (3 : Int64)) ∈ lw_all := lw_g (lw_at lw_m1 223 rfl) rfl
theorem q302 : (Jvm.Cond.fieldLink "SecondChances" (101 : Nat) "SecondChances" "GREATEST" "[I") ∈ lw_all := lw_g (lw_at lw_m1 224 rfl) rfl
theorem q303 : (Jvm.Cond.laysStatic "SecondChances" "GREATEST" "[I") ∈ lw_tbl := lw_at lw_m1 225 rfl
theorem q305 : (Jvm.Cond.instanceMethod ({ cls := "SecondChances", name := "weather", desc := "(II)I" } : Jvm.MethodName)) ∈ lw_all := lw_g (lw_at lw_m1 227 rfl) rfl
theorem q306 : (Jvm.Cond.selects "SecondChances" ({ cls := "SecondChances", name := "weather", desc := "(II)I" } : Jvm.MethodName) ({ cls := "SecondChances", name := "weather", desc := "(II)I" } : Jvm.MethodName)) ∈ lw_all := lw_g (lw_at lw_m1 228 rfl) rfl
theorem q307 : (Jvm.Cond.code ({ cls := "SecondChances", name := "weather", desc := "(II)I" } : Jvm.MethodName) prog_1_method_11_code (4 : Nat) (Option.some Jvm.ClassFile.FieldType.int)) ∈ lw_all := lw_g (lw_at lw_m1 229 rfl) rfl
theorem q308 : (Jvm.Cond.methodLink "SecondChances" (107 : Nat) ({ cls := "SecondChances", name := "isHour", desc := "(I)Z" } : Jvm.MethodName)) ∈ lw_all := lw_g (lw_at lw_m1 230 rfl) rfl
theorem q309 : (Jvm.Cond.static ({ cls := "SecondChances", name := "isHour", desc := "(I)Z" } : Jvm.MethodName)) ∈ lw_all := lw_g (lw_at lw_m1 231 rfl) rfl
theorem q310 : (Jvm.Cond.code ({ cls := "SecondChances", name := "isHour", desc := "(I)Z" } : Jvm.MethodName) prog_1_method_8_code (1 : Nat) (Option.some Jvm.ClassFile.FieldType.boolean)) ∈ lw_all := lw_g (lw_at lw_m1 232 rfl) rfl
theorem q311 : (Jvm.Cond.methodLink "SecondChances" (110 : Nat) ({ cls := "SecondChances", name := "isTwo", desc := "(I)Z" } : Jvm.MethodName)) ∈ lw_all := lw_g (lw_at lw_m1 233 rfl) rfl
theorem q312 : (Jvm.Cond.static ({ cls := "SecondChances", name := "isTwo", desc := "(I)Z" } : Jvm.MethodName)) ∈ lw_all := lw_g (lw_at lw_m1 234 rfl) rfl
theorem q313 : (Jvm.Cond.code ({ cls := "SecondChances", name := "isTwo", desc := "(I)Z" } : Jvm.MethodName) prog_1_method_6_code (1 : Nat) (Option.some Jvm.ClassFile.FieldType.boolean)) ∈ lw_all := lw_g (lw_at lw_m1 235 rfl) rfl
theorem q315 : (Jvm.Cond.instanceMethod ({ cls := "SecondChances", name := "set", desc := "(II)I" } : Jvm.MethodName)) ∈ lw_all := lw_g (lw_at lw_m1 237 rfl) rfl
theorem q316 : (Jvm.Cond.selects "SecondChances" ({ cls := "SecondChances", name := "set", desc := "(II)I" } : Jvm.MethodName) ({ cls := "SecondChances", name := "set", desc := "(II)I" } : Jvm.MethodName)) ∈ lw_all := lw_g (lw_at lw_m1 238 rfl) rfl
theorem q317 : (Jvm.Cond.code ({ cls := "SecondChances", name := "set", desc := "(II)I" } : Jvm.MethodName) prog_1_method_12_code (4 : Nat) (Option.some Jvm.ClassFile.FieldType.int)) ∈ lw_all := lw_g (lw_at lw_m1 239 rfl) rfl
theorem q318 : (Jvm.Cond.fieldLink "SecondChances" (113 : Nat) "SecondChances" "HIGH" "[I") ∈ lw_all := lw_g (lw_at lw_m2 0 rfl) rfl
theorem q319 : (Jvm.Cond.laysStatic "SecondChances" "HIGH" "[I") ∈ lw_tbl := lw_at lw_m2 1 rfl
theorem q321 : (Jvm.Cond.instanceMethod ({ cls := "SecondChances", name := "read", desc := "(I)I" } : Jvm.MethodName)) ∈ lw_all := lw_g (lw_at lw_m2 3 rfl) rfl
theorem q322 : (Jvm.Cond.selects "SecondChances" ({ cls := "SecondChances", name := "read", desc := "(I)I" } : Jvm.MethodName) ({ cls := "SecondChances", name := "read", desc := "(I)I" } : Jvm.MethodName)) ∈ lw_all := lw_g (lw_at lw_m2 4 rfl) rfl
theorem q323 : (Jvm.Cond.code ({ cls := "SecondChances", name := "read", desc := "(I)I" } : Jvm.MethodName) prog_1_method_13_code (4 : Nat) (Option.some Jvm.ClassFile.FieldType.int)) ∈ lw_all := lw_g (lw_at lw_m2 5 rfl) rfl
theorem q324 : (Jvm.Cond.methodLink "SecondChances" (116 : Nat) ({ cls := "SecondChances", name := "isSheet", desc := "(I)Z" } : Jvm.MethodName)) ∈ lw_all := lw_g (lw_at lw_m2 6 rfl) rfl
theorem q325 : (Jvm.Cond.static ({ cls := "SecondChances", name := "isSheet", desc := "(I)Z" } : Jvm.MethodName)) ∈ lw_all := lw_g (lw_at lw_m2 7 rfl) rfl
theorem q326 : (Jvm.Cond.code ({ cls := "SecondChances", name := "isSheet", desc := "(I)Z" } : Jvm.MethodName) prog_1_method_77_code (1 : Nat) (Option.some Jvm.ClassFile.FieldType.boolean)) ∈ lw_all := lw_g (lw_at lw_m2 8 rfl) rfl
theorem q327 : (Jvm.Cond.methodLink "SecondChances" (122 : Nat) ({ cls := "SecondChances", name := "met", desc := "(I)I" } : Jvm.MethodName)) ∈ lw_all := lw_g (lw_at lw_m2 9 rfl) rfl
theorem q328 : (Jvm.Cond.privateMethod ({ cls := "SecondChances", name := "met", desc := "(I)I" } : Jvm.MethodName)) ∈ lw_tbl := lw_at lw_m2 10 rfl
theorem q329 : (Jvm.Cond.instanceMethod ({ cls := "SecondChances", name := "met", desc := "(I)I" } : Jvm.MethodName)) ∈ lw_all := lw_g (lw_at lw_m2 11 rfl) rfl
theorem q330 : (Jvm.Cond.code ({ cls := "SecondChances", name := "met", desc := "(I)I" } : Jvm.MethodName) prog_1_method_4_code (2 : Nat) (Option.some Jvm.ClassFile.FieldType.int)) ∈ lw_all := lw_g (lw_at lw_m2 12 rfl) rfl
theorem q331 : (Jvm.Cond.methodLink "SecondChances" (126 : Nat) ({ cls := "SecondChances$Sheet", name := "size", desc := "()I" } : Jvm.MethodName)) ∈ lw_all := lw_g (lw_at lw_m2 13 rfl) rfl
theorem q342 : (Jvm.Cond.methodLink "SecondChances" (130 : Nat) ({ cls := "SecondChances$Sheet", name := "type", desc := "()I" } : Jvm.MethodName)) ∈ lw_all := lw_g (lw_at lw_m2 24 rfl) rfl
theorem q343 : (Jvm.Cond.methodLink "SecondChances" (133 : Nat) ({ cls := "SecondChances$Sheet", name := "item", desc := "(II)I" } : Jvm.MethodName)) ∈ lw_all := lw_g (lw_at lw_m2 25 rfl) rfl
theorem q347 : (Jvm.Cond.methodLink "SecondChances" (137 : Nat) ({ cls := "SecondChances", name := "weather", desc := "(II)I" } : Jvm.MethodName)) ∈ lw_all := lw_g (lw_at lw_m2 29 rfl) rfl
theorem q349 : (Jvm.Cond.instanceMethod ({ cls := "SecondChances", name := "type", desc := "(II)I" } : Jvm.MethodName)) ∈ lw_all := lw_g (lw_at lw_m2 31 rfl) rfl
theorem q350 : (Jvm.Cond.selects "SecondChances" ({ cls := "SecondChances", name := "type", desc := "(II)I" } : Jvm.MethodName) ({ cls := "SecondChances", name := "type", desc := "(II)I" } : Jvm.MethodName)) ∈ lw_all := lw_g (lw_at lw_m2 32 rfl) rfl
theorem q351 : (Jvm.Cond.code ({ cls := "SecondChances", name := "type", desc := "(II)I" } : Jvm.MethodName) prog_1_method_15_code (3 : Nat) (Option.some Jvm.ClassFile.FieldType.int)) ∈ lw_all := lw_g (lw_at lw_m2 33 rfl) rfl
theorem q352 : (Jvm.Cond.constantLong "SecondChances" (139 : Nat) (255 : Int64)) ∈ lw_all := lw_g (lw_at lw_m2 34 rfl) rfl
theorem q353 : (Jvm.Cond.methodLink "SecondChances" (141 : Nat) ({ cls := "SecondChances", name := "text", desc := "(I)LSecondChances$Text;" } : Jvm.MethodName)) ∈ lw_all := lw_g (lw_at lw_m2 35 rfl) rfl
theorem q354 : (Jvm.Cond.privateMethod ({ cls := "SecondChances", name := "text", desc := "(I)LSecondChances$Text;" } : Jvm.MethodName)) ∈ lw_tbl := lw_at lw_m2 36 rfl
theorem q355 : (Jvm.Cond.instanceMethod ({ cls := "SecondChances", name := "text", desc := "(I)LSecondChances$Text;" } : Jvm.MethodName)) ∈ lw_all := lw_g (lw_at lw_m2 37 rfl) rfl
theorem q356 : (Jvm.Cond.code ({ cls := "SecondChances", name := "text", desc := "(I)LSecondChances$Text;" } : Jvm.MethodName) prog_1_method_14_code (2 : Nat) (Option.some (Jvm.ClassFile.FieldType.object "SecondChances$Text"))) ∈ lw_all := lw_g (lw_at lw_m2 38 rfl) rfl
theorem q357 : (Jvm.Cond.methodLink "SecondChances" (145 : Nat) ({ cls := "SecondChances$Text", name := "type", desc := "(I)I" } : Jvm.MethodName)) ∈ lw_all := lw_g (lw_at lw_m2 39 rfl) rfl
theorem q364 : (Jvm.Cond.instanceMethod ({ cls := "SecondChances", name := "wipe", desc := "(I)I" } : Jvm.MethodName)) ∈ lw_all := lw_g (lw_at lw_m2 46 rfl) rfl
theorem q365 : (Jvm.Cond.selects "SecondChances" ({ cls := "SecondChances", name := "wipe", desc := "(I)I" } : Jvm.MethodName) ({ cls := "SecondChances", name := "wipe", desc := "(I)I" } : Jvm.MethodName)) ∈ lw_all := lw_g (lw_at lw_m2 47 rfl) rfl
theorem q366 : (Jvm.Cond.code ({ cls := "SecondChances", name := "wipe", desc := "(I)I" } : Jvm.MethodName) prog_1_method_16_code (2 : Nat) (Option.some Jvm.ClassFile.FieldType.int)) ∈ lw_all := lw_g (lw_at lw_m2 48 rfl) rfl
theorem q367 : (Jvm.Cond.methodLink "SecondChances" (149 : Nat) ({ cls := "SecondChances$Text", name := "wipe", desc := "()I" } : Jvm.MethodName)) ∈ lw_all := lw_g (lw_at lw_m2 49 rfl) rfl
theorem q374 : (Jvm.Cond.instanceMethod ({ cls := "SecondChances", name := "fault", desc := "(I)I" } : Jvm.MethodName)) ∈ lw_all := lw_g (lw_at lw_m2 56 rfl) rfl
theorem q375 : (Jvm.Cond.selects "SecondChances" ({ cls := "SecondChances", name := "fault", desc := "(I)I" } : Jvm.MethodName) ({ cls := "SecondChances", name := "fault", desc := "(I)I" } : Jvm.MethodName)) ∈ lw_all := lw_g (lw_at lw_m2 57 rfl) rfl
theorem q376 : (Jvm.Cond.code ({ cls := "SecondChances", name := "fault", desc := "(I)I" } : Jvm.MethodName) prog_1_method_17_code (2 : Nat) (Option.some Jvm.ClassFile.FieldType.int)) ∈ lw_all := lw_g (lw_at lw_m2 58 rfl) rfl
theorem q377 : (Jvm.Cond.methodLink "SecondChances" (152 : Nat) ({ cls := "SecondChances$Text", name := "read", desc := "()I" } : Jvm.MethodName)) ∈ lw_all := lw_g (lw_at lw_m2 59 rfl) rfl
theorem q524 : (Jvm.Cond.fieldLinkNest "SecondChances" (172 : Nat) "SecondChances$Deed" "kind" "I" "SecondChances") ∈ lw_tbl := lw_at lw_m2 206 rfl
theorem q526 : (Jvm.Cond.fieldLinkNest "SecondChances" (175 : Nat) "SecondChances$Deed" "place" "I" "SecondChances") ∈ lw_tbl := lw_at lw_m2 208 rfl
theorem q528 : (Jvm.Cond.fieldLinkNest "SecondChances" (178 : Nat) "SecondChances$Deed" "weather" "I" "SecondChances") ∈ lw_tbl := lw_at lw_m2 210 rfl
theorem q530 : (Jvm.Cond.fieldLinkNest "SecondChances" (180 : Nat) "SecondChances$Deed" "worth" "I" "SecondChances") ∈ lw_tbl := lw_at lw_m2 212 rfl
theorem q532 : (Jvm.Cond.fieldLinkNest "SecondChances" (183 : Nat) "SecondChances$Deed" "there" "I" "SecondChances") ∈ lw_tbl := lw_at lw_m2 214 rfl
theorem q550 : (Jvm.Cond.static ({ cls := "SecondChances", name := "isIn", desc := "(II)Z" } : Jvm.MethodName)) ∈ lw_all := lw_g (lw_at lw_m2 232 rfl) rfl
theorem q551 : (Jvm.Cond.code ({ cls := "SecondChances", name := "isIn", desc := "(II)Z" } : Jvm.MethodName) prog_1_method_7_code (2 : Nat) (Option.some Jvm.ClassFile.FieldType.boolean)) ∈ lw_all := lw_g (lw_at lw_m2 233 rfl) rfl
theorem q584 : (Jvm.Cond.selects "SecondChances" ({ cls := "java/lang/Object", name := "getClass", desc := "()Ljava/lang/Class;" } : Jvm.MethodName) ({ cls := "java/lang/Object", name := "getClass", desc := "()Ljava/lang/Class;" } : Jvm.MethodName)) ∈ lw_all := lw_g (lw_at lw_m3 26 rfl) rfl
theorem q623 : (Jvm.Cond.instanceMethod ({ cls := "SecondChances", name := "deed", desc := "(II)I" } : Jvm.MethodName)) ∈ lw_all := lw_g (lw_at lw_m3 65 rfl) rfl
theorem q624 : (Jvm.Cond.selects "SecondChances" ({ cls := "SecondChances", name := "deed", desc := "(II)I" } : Jvm.MethodName) ({ cls := "SecondChances", name := "deed", desc := "(II)I" } : Jvm.MethodName)) ∈ lw_all := lw_g (lw_at lw_m3 66 rfl) rfl
theorem q625 : (Jvm.Cond.code ({ cls := "SecondChances", name := "deed", desc := "(II)I" } : Jvm.MethodName) prog_1_method_22_code (3 : Nat) (Option.some Jvm.ClassFile.FieldType.int)) ∈ lw_all := lw_g (lw_at lw_m3 67 rfl) rfl
theorem q626 : (Jvm.Cond.methodLink "SecondChances" (186 : Nat) ({ cls := "SecondChances", name := "isDeed", desc := "(I)Z" } : Jvm.MethodName)) ∈ lw_all := lw_g (lw_at lw_m3 68 rfl) rfl
theorem q627 : (Jvm.Cond.privateMethod ({ cls := "SecondChances", name := "isDeed", desc := "(I)Z" } : Jvm.MethodName)) ∈ lw_tbl := lw_at lw_m3 69 rfl
theorem q628 : (Jvm.Cond.instanceMethod ({ cls := "SecondChances", name := "isDeed", desc := "(I)Z" } : Jvm.MethodName)) ∈ lw_all := lw_g (lw_at lw_m3 70 rfl) rfl
theorem q629 : (Jvm.Cond.code ({ cls := "SecondChances", name := "isDeed", desc := "(I)Z" } : Jvm.MethodName) prog_1_method_20_code (2 : Nat) (Option.some Jvm.ClassFile.FieldType.boolean)) ∈ lw_all := lw_g (lw_at lw_m3 71 rfl) rfl
theorem q630 : (Jvm.Cond.methodLink "SecondChances" (166 : Nat) ({ cls := "SecondChances", name := "deeds", desc := "()I" } : Jvm.MethodName)) ∈ lw_all := lw_g (lw_at lw_m3 72 rfl) rfl
theorem q631 : (Jvm.Cond.privateMethod ({ cls := "SecondChances", name := "deeds", desc := "()I" } : Jvm.MethodName)) ∈ lw_tbl := lw_at lw_m3 73 rfl
theorem q632 : (Jvm.Cond.instanceMethod ({ cls := "SecondChances", name := "deeds", desc := "()I" } : Jvm.MethodName)) ∈ lw_all := lw_g (lw_at lw_m3 74 rfl) rfl
theorem q633 : (Jvm.Cond.code ({ cls := "SecondChances", name := "deeds", desc := "()I" } : Jvm.MethodName) prog_1_method_18_code (1 : Nat) (Option.some Jvm.ClassFile.FieldType.int)) ∈ lw_all := lw_g (lw_at lw_m3 75 rfl) rfl
theorem q634 : (Jvm.Cond.methodLink "SecondChances" (155 : Nat) ({ cls := "SecondChances$Deeds", name := "read", desc := "()I" } : Jvm.MethodName)) ∈ lw_all := lw_g (lw_at lw_m3 76 rfl) rfl
theorem q638 : (Jvm.Cond.methodLink "SecondChances" (156 : Nat) ({ cls := "SecondChances$Rules", name := "read", desc := "()I" } : Jvm.MethodName)) ∈ lw_all := lw_g (lw_at lw_m3 80 rfl) rfl
theorem q641 : (Jvm.Cond.methodLink "SecondChances" (159 : Nat) ({ cls := "java/util/ArrayList", name := "size", desc := "()I" } : Jvm.MethodName)) ∈ lw_all := lw_g (lw_at lw_m3 83 rfl) rfl
theorem q642 : (Jvm.Cond.constantLong "SecondChances" (189 : Nat) (4 : Int64)) ∈ lw_all := lw_g (lw_at lw_m3 84 rfl) rfl
theorem q643 : (Jvm.Cond.methodLink "SecondChances" (191 : Nat) ({ cls := "SecondChances", name := "deedBy", desc := "(II)I" } : Jvm.MethodName)) ∈ lw_all := lw_g (lw_at lw_m3 85 rfl) rfl
theorem q644 : (Jvm.Cond.privateMethod ({ cls := "SecondChances", name := "deedBy", desc := "(II)I" } : Jvm.MethodName)) ∈ lw_tbl := lw_at lw_m3 86 rfl
theorem q645 : (Jvm.Cond.instanceMethod ({ cls := "SecondChances", name := "deedBy", desc := "(II)I" } : Jvm.MethodName)) ∈ lw_all := lw_g (lw_at lw_m3 87 rfl) rfl
theorem q646 : (Jvm.Cond.code ({ cls := "SecondChances", name := "deedBy", desc := "(II)I" } : Jvm.MethodName) prog_1_method_21_code (4 : Nat) (Option.some Jvm.ClassFile.FieldType.int)) ∈ lw_all := lw_g (lw_at lw_m3 88 rfl) rfl
theorem q647 : (Jvm.Cond.methodLink "SecondChances" (168 : Nat) ({ cls := "SecondChances", name := "deed", desc := "(I)LSecondChances$Deed;" } : Jvm.MethodName)) ∈ lw_all := lw_g (lw_at lw_m3 89 rfl) rfl
theorem q648 : (Jvm.Cond.privateMethod ({ cls := "SecondChances", name := "deed", desc := "(I)LSecondChances$Deed;" } : Jvm.MethodName)) ∈ lw_tbl := lw_at lw_m3 90 rfl
theorem q649 : (Jvm.Cond.instanceMethod ({ cls := "SecondChances", name := "deed", desc := "(I)LSecondChances$Deed;" } : Jvm.MethodName)) ∈ lw_all := lw_g (lw_at lw_m3 91 rfl) rfl
theorem q650 : (Jvm.Cond.code ({ cls := "SecondChances", name := "deed", desc := "(I)LSecondChances$Deed;" } : Jvm.MethodName) prog_1_method_19_code (2 : Nat) (Option.some (Jvm.ClassFile.FieldType.object "SecondChances$Deed"))) ∈ lw_all := lw_g (lw_at lw_m3 92 rfl) rfl
theorem q651 : (Jvm.Cond.methodLink "SecondChances" (160 : Nat) ({ cls := "java/util/ArrayList", name := "get", desc := "(I)Ljava/lang/Object;" } : Jvm.MethodName)) ∈ lw_all := lw_g (lw_at lw_m3 93 rfl) rfl
theorem q665 : (Jvm.Cond.classLink "SecondChances" (164 : Nat) "SecondChances$Deed") ∈ lw_all := lw_g (lw_at lw_m3 107 rfl) rfl
theorem q667 : (Jvm.Cond.instanceMethod ({ cls := "SecondChances", name := "rule", desc := "(II)I" } : Jvm.MethodName)) ∈ lw_all := lw_g (lw_at lw_m3 109 rfl) rfl
theorem q668 : (Jvm.Cond.selects "SecondChances" ({ cls := "SecondChances", name := "rule", desc := "(II)I" } : Jvm.MethodName) ({ cls := "SecondChances", name := "rule", desc := "(II)I" } : Jvm.MethodName)) ∈ lw_all := lw_g (lw_at lw_m3 110 rfl) rfl
theorem q669 : (Jvm.Cond.code ({ cls := "SecondChances", name := "rule", desc := "(II)I" } : Jvm.MethodName) prog_1_method_24_code (3 : Nat) (Option.some Jvm.ClassFile.FieldType.int)) ∈ lw_all := lw_g (lw_at lw_m3 111 rfl) rfl
theorem q670 : (Jvm.Cond.constantLong "SecondChances" (202 : Nat) (2 : Int64)) ∈ lw_all := lw_g (lw_at lw_m3 112 rfl) rfl
theorem q671 : (Jvm.Cond.methodLink "SecondChances" (204 : Nat) ({ cls := "SecondChances", name := "ruleOf", desc := "(II)I" } : Jvm.MethodName)) ∈ lw_all := lw_g (lw_at lw_m3 113 rfl) rfl
theorem q672 : (Jvm.Cond.privateMethod ({ cls := "SecondChances", name := "ruleOf", desc := "(II)I" } : Jvm.MethodName)) ∈ lw_tbl := lw_at lw_m3 114 rfl
theorem q673 : (Jvm.Cond.instanceMethod ({ cls := "SecondChances", name := "ruleOf", desc := "(II)I" } : Jvm.MethodName)) ∈ lw_all := lw_g (lw_at lw_m3 115 rfl) rfl
theorem q674 : (Jvm.Cond.code ({ cls := "SecondChances", name := "ruleOf", desc := "(II)I" } : Jvm.MethodName) prog_1_method_23_code (3 : Nat) (Option.some Jvm.ClassFile.FieldType.int)) ∈ lw_all := lw_g (lw_at lw_m3 116 rfl) rfl
theorem q676 : (Jvm.Cond.instanceMethod ({ cls := "SecondChances", name := "can", desc := "(II)I" } : Jvm.MethodName)) ∈ lw_all := lw_g (lw_at lw_m3 118 rfl) rfl
theorem q677 : (Jvm.Cond.selects "SecondChances" ({ cls := "SecondChances", name := "can", desc := "(II)I" } : Jvm.MethodName) ({ cls := "SecondChances", name := "can", desc := "(II)I" } : Jvm.MethodName)) ∈ lw_all := lw_g (lw_at lw_m3 119 rfl) rfl
theorem q678 : (Jvm.Cond.code ({ cls := "SecondChances", name := "can", desc := "(II)I" } : Jvm.MethodName) prog_1_method_32_code (3 : Nat) (Option.some Jvm.ClassFile.FieldType.int)) ∈ lw_all := lw_g (lw_at lw_m3 120 rfl) rfl
theorem q679 : (Jvm.Cond.methodLink "SecondChances" (238 : Nat) ({ cls := "SecondChances", name := "canBe", desc := "(LSecondChances$Deed;I)Z" } : Jvm.MethodName)) ∈ lw_all := lw_g (lw_at lw_m3 121 rfl) rfl
theorem q680 : (Jvm.Cond.privateMethod ({ cls := "SecondChances", name := "canBe", desc := "(LSecondChances$Deed;I)Z" } : Jvm.MethodName)) ∈ lw_tbl := lw_at lw_m3 122 rfl
theorem q681 : (Jvm.Cond.instanceMethod ({ cls := "SecondChances", name := "canBe", desc := "(LSecondChances$Deed;I)Z" } : Jvm.MethodName)) ∈ lw_all := lw_g (lw_at lw_m3 123 rfl) rfl
theorem q682 : (Jvm.Cond.code ({ cls := "SecondChances", name := "canBe", desc := "(LSecondChances$Deed;I)Z" } : Jvm.MethodName) prog_1_method_30_code (3 : Nat) (Option.some Jvm.ClassFile.FieldType.boolean)) ∈ lw_all := lw_g (lw_at lw_m3 124 rfl) rfl
theorem q683 : (Jvm.Cond.methodLink "SecondChances" (230 : Nat) ({ cls := "SecondChances", name := "comers", desc := "(LSecondChances$Deed;I)I" } : Jvm.MethodName)) ∈ lw_all := lw_g (lw_at lw_m3 125 rfl) rfl
theorem q684 : (Jvm.Cond.privateMethod ({ cls := "SecondChances", name := "comers", desc := "(LSecondChances$Deed;I)I" } : Jvm.MethodName)) ∈ lw_tbl := lw_at lw_m3 126 rfl
theorem q685 : (Jvm.Cond.instanceMethod ({ cls := "SecondChances", name := "comers", desc := "(LSecondChances$Deed;I)I" } : Jvm.MethodName)) ∈ lw_all := lw_g (lw_at lw_m3 127 rfl) rfl
theorem q686 : (Jvm.Cond.code ({ cls := "SecondChances", name := "comers", desc := "(LSecondChances$Deed;I)I" } : Jvm.MethodName) prog_1_method_29_code (8 : Nat) (Option.some Jvm.ClassFile.FieldType.int)) ∈ lw_all := lw_g (lw_at lw_m3 128 rfl) rfl
theorem q687 : (Jvm.Cond.methodLink "SecondChances" (219 : Nat) ({ cls := "SecondChances", name := "needed", desc := "(LSecondChances$Deed;)I" } : Jvm.MethodName)) ∈ lw_all := lw_g (lw_at lw_m3 129 rfl) rfl
theorem q688 : (Jvm.Cond.privateMethod ({ cls := "SecondChances", name := "needed", desc := "(LSecondChances$Deed;)I" } : Jvm.MethodName)) ∈ lw_tbl := lw_at lw_m3 130 rfl
theorem q689 : (Jvm.Cond.instanceMethod ({ cls := "SecondChances", name := "needed", desc := "(LSecondChances$Deed;)I" } : Jvm.MethodName)) ∈ lw_all := lw_g (lw_at lw_m3 131 rfl) rfl
theorem q690 : (Jvm.Cond.code ({ cls := "SecondChances", name := "needed", desc := "(LSecondChances$Deed;)I" } : Jvm.MethodName) prog_1_method_28_code (2 : Nat) (Option.some Jvm.ClassFile.FieldType.int)) ∈ lw_all := lw_g (lw_at lw_m3 132 rfl) rfl
theorem q691 : (Jvm.Cond.methodLink "SecondChances" (211 : Nat) ({ cls := "java/lang/Integer", name := "bitCount", desc := "(I)I" } : Jvm.MethodName)) ∈ lw_all := lw_g (lw_at lw_m3 133 rfl) rfl
theorem q697 : (Jvm.Cond.methodLink "SecondChances" (214 : Nat) ({ cls := "java/lang/Math", name := "min", desc := "(II)I" } : Jvm.MethodName)) ∈ lw_all := lw_g (lw_at lw_m3 139 rfl) rfl
theorem q698 : (Jvm.Cond.methodLink "SecondChances" (223 : Nat) ({ cls := "SecondChances", name := "isIn", desc := "(II)Z" } : Jvm.MethodName)) ∈ lw_all := lw_g (lw_at lw_m3 140 rfl) rfl
theorem q699 : (Jvm.Cond.methodLink "SecondChances" (227 : Nat) ({ cls := "SecondChances$Person", name := "comes", desc := "(I)Z" } : Jvm.MethodName)) ∈ lw_all := lw_g (lw_at lw_m3 141 rfl) rfl
theorem q703 : (Jvm.Cond.methodLink "SecondChances" (234 : Nat) ({ cls := "SecondChances", name := "isTurned", desc := "(LSecondChances$Deed;I)Z" } : Jvm.MethodName)) ∈ lw_all := lw_g (lw_at lw_m3 145 rfl) rfl
theorem q704 : (Jvm.Cond.privateMethod ({ cls := "SecondChances", name := "isTurned", desc := "(LSecondChances$Deed;I)Z" } : Jvm.MethodName)) ∈ lw_tbl := lw_at lw_m3 146 rfl
theorem q705 : (Jvm.Cond.instanceMethod ({ cls := "SecondChances", name := "isTurned", desc := "(LSecondChances$Deed;I)Z" } : Jvm.MethodName)) ∈ lw_all := lw_g (lw_at lw_m3 147 rfl) rfl
theorem q706 : (Jvm.Cond.code ({ cls := "SecondChances", name := "isTurned", desc := "(LSecondChances$Deed;I)Z" } : Jvm.MethodName) prog_1_method_27_code (3 : Nat) (Option.some Jvm.ClassFile.FieldType.boolean)) ∈ lw_all := lw_g (lw_at lw_m3 148 rfl) rfl
theorem q707 : (Jvm.Cond.methodLink "SecondChances" (207 : Nat) ({ cls := "SecondChances", name := "asksWeather", desc := "(LSecondChances$Deed;)Z" } : Jvm.MethodName)) ∈ lw_all := lw_g (lw_at lw_m3 149 rfl) rfl
theorem q708 : (Jvm.Cond.privateMethod ({ cls := "SecondChances", name := "asksWeather", desc := "(LSecondChances$Deed;)Z" } : Jvm.MethodName)) ∈ lw_tbl := lw_at lw_m3 150 rfl
theorem q709 : (Jvm.Cond.instanceMethod ({ cls := "SecondChances", name := "asksWeather", desc := "(LSecondChances$Deed;)Z" } : Jvm.MethodName)) ∈ lw_all := lw_g (lw_at lw_m3 151 rfl) rfl
theorem q710 : (Jvm.Cond.code ({ cls := "SecondChances", name := "asksWeather", desc := "(LSecondChances$Deed;)Z" } : Jvm.MethodName) prog_1_method_25_code (2 : Nat) (Option.some Jvm.ClassFile.FieldType.boolean)) ∈ lw_all := lw_g (lw_at lw_m3 152 rfl) rfl
theorem q712 : (Jvm.Cond.instanceMethod ({ cls := "SecondChances", name := "hours", desc := "(I)I" } : Jvm.MethodName)) ∈ lw_all := lw_g (lw_at lw_m3 154 rfl) rfl
theorem q713 : (Jvm.Cond.selects "SecondChances" ({ cls := "SecondChances", name := "hours", desc := "(I)I" } : Jvm.MethodName) ({ cls := "SecondChances", name := "hours", desc := "(I)I" } : Jvm.MethodName)) ∈ lw_all := lw_g (lw_at lw_m3 155 rfl) rfl
theorem q714 : (Jvm.Cond.code ({ cls := "SecondChances", name := "hours", desc := "(I)I" } : Jvm.MethodName) prog_1_method_34_code (2 : Nat) (Option.some Jvm.ClassFile.FieldType.int)) ∈ lw_all := lw_g (lw_at lw_m3 156 rfl) rfl
theorem q715 : (Jvm.Cond.methodLink "SecondChances" (241 : Nat) ({ cls := "SecondChances", name := "hoursOf", desc := "(I)I" } : Jvm.MethodName)) ∈ lw_all := lw_g (lw_at lw_m3 157 rfl) rfl
theorem q716 : (Jvm.Cond.privateMethod ({ cls := "SecondChances", name := "hoursOf", desc := "(I)I" } : Jvm.MethodName)) ∈ lw_tbl := lw_at lw_m3 158 rfl
theorem q717 : (Jvm.Cond.instanceMethod ({ cls := "SecondChances", name := "hoursOf", desc := "(I)I" } : Jvm.MethodName)) ∈ lw_all := lw_g (lw_at lw_m3 159 rfl) rfl
theorem q718 : (Jvm.Cond.code ({ cls := "SecondChances", name := "hoursOf", desc := "(I)I" } : Jvm.MethodName) prog_1_method_33_code (4 : Nat) (Option.some Jvm.ClassFile.FieldType.int)) ∈ lw_all := lw_g (lw_at lw_m3 160 rfl) rfl
theorem q720 : (Jvm.Cond.instanceMethod ({ cls := "SecondChances", name := "comes", desc := "(II)I" } : Jvm.MethodName)) ∈ lw_all := lw_g (lw_at lw_m3 162 rfl) rfl
theorem q721 : (Jvm.Cond.selects "SecondChances" ({ cls := "SecondChances", name := "comes", desc := "(II)I" } : Jvm.MethodName) ({ cls := "SecondChances", name := "comes", desc := "(II)I" } : Jvm.MethodName)) ∈ lw_all := lw_g (lw_at lw_m3 163 rfl) rfl
theorem q722 : (Jvm.Cond.code ({ cls := "SecondChances", name := "comes", desc := "(II)I" } : Jvm.MethodName) prog_1_method_35_code (3 : Nat) (Option.some Jvm.ClassFile.FieldType.int)) ∈ lw_all := lw_g (lw_at lw_m3 164 rfl) rfl
theorem q724 : (Jvm.Cond.instanceMethod ({ cls := "SecondChances", name := "costs", desc := "(II)I" } : Jvm.MethodName)) ∈ lw_all := lw_g (lw_at lw_m3 166 rfl) rfl
theorem q725 : (Jvm.Cond.selects "SecondChances" ({ cls := "SecondChances", name := "costs", desc := "(II)I" } : Jvm.MethodName) ({ cls := "SecondChances", name := "costs", desc := "(II)I" } : Jvm.MethodName)) ∈ lw_all := lw_g (lw_at lw_m3 167 rfl) rfl
theorem q726 : (Jvm.Cond.code ({ cls := "SecondChances", name := "costs", desc := "(II)I" } : Jvm.MethodName) prog_1_method_37_code (3 : Nat) (Option.some Jvm.ClassFile.FieldType.int)) ∈ lw_all := lw_g (lw_at lw_m3 168 rfl) rfl
theorem q727 : (Jvm.Cond.methodLink "SecondChances" (247 : Nat) ({ cls := "SecondChances", name := "costsOf", desc := "(II)I" } : Jvm.MethodName)) ∈ lw_all := lw_g (lw_at lw_m3 169 rfl) rfl
theorem q728 : (Jvm.Cond.privateMethod ({ cls := "SecondChances", name := "costsOf", desc := "(II)I" } : Jvm.MethodName)) ∈ lw_tbl := lw_at lw_m3 170 rfl
theorem q729 : (Jvm.Cond.instanceMethod ({ cls := "SecondChances", name := "costsOf", desc := "(II)I" } : Jvm.MethodName)) ∈ lw_all := lw_g (lw_at lw_m3 171 rfl) rfl
theorem q730 : (Jvm.Cond.code ({ cls := "SecondChances", name := "costsOf", desc := "(II)I" } : Jvm.MethodName) prog_1_method_36_code (4 : Nat) (Option.some Jvm.ClassFile.FieldType.int)) ∈ lw_all := lw_g (lw_at lw_m3 172 rfl) rfl
theorem q731 : (Jvm.Cond.methodLink "SecondChances" (244 : Nat) ({ cls := "SecondChances", name := "prices", desc := "(I)I" } : Jvm.MethodName)) ∈ lw_all := lw_g (lw_at lw_m3 173 rfl) rfl
theorem q732 : (Jvm.Cond.privateMethod ({ cls := "SecondChances", name := "prices", desc := "(I)I" } : Jvm.MethodName)) ∈ lw_tbl := lw_at lw_m3 174 rfl
theorem q733 : (Jvm.Cond.instanceMethod ({ cls := "SecondChances", name := "prices", desc := "(I)I" } : Jvm.MethodName)) ∈ lw_all := lw_g (lw_at lw_m3 175 rfl) rfl
theorem q734 : (Jvm.Cond.code ({ cls := "SecondChances", name := "prices", desc := "(I)I" } : Jvm.MethodName) prog_1_method_31_code (4 : Nat) (Option.some Jvm.ClassFile.FieldType.int)) ∈ lw_all := lw_g (lw_at lw_m3 176 rfl) rfl
theorem q736 : (Jvm.Cond.instanceMethod ({ cls := "SecondChances", name := "most", desc := "(I)I" } : Jvm.MethodName)) ∈ lw_all := lw_g (lw_at lw_m3 178 rfl) rfl
theorem q737 : (Jvm.Cond.selects "SecondChances" ({ cls := "SecondChances", name := "most", desc := "(I)I" } : Jvm.MethodName) ({ cls := "SecondChances", name := "most", desc := "(I)I" } : Jvm.MethodName)) ∈ lw_all := lw_g (lw_at lw_m3 179 rfl) rfl
theorem q738 : (Jvm.Cond.code ({ cls := "SecondChances", name := "most", desc := "(I)I" } : Jvm.MethodName) prog_1_method_45_code (2 : Nat) (Option.some Jvm.ClassFile.FieldType.int)) ∈ lw_all := lw_g (lw_at lw_m3 180 rfl) rfl
theorem q739 : (Jvm.Cond.methodLink "SecondChances" (289 : Nat) ({ cls := "SecondChances", name := "planned", desc := "()LSecondChances;" } : Jvm.MethodName)) ∈ lw_all := lw_g (lw_at lw_m3 181 rfl) rfl
theorem q740 : (Jvm.Cond.privateMethod ({ cls := "SecondChances", name := "planned", desc := "()LSecondChances;" } : Jvm.MethodName)) ∈ lw_tbl := lw_at lw_m3 182 rfl
theorem q741 : (Jvm.Cond.instanceMethod ({ cls := "SecondChances", name := "planned", desc := "()LSecondChances;" } : Jvm.MethodName)) ∈ lw_all := lw_g (lw_at lw_m3 183 rfl) rfl
theorem q742 : (Jvm.Cond.code ({ cls := "SecondChances", name := "planned", desc := "()LSecondChances;" } : Jvm.MethodName) prog_1_method_44_code (1 : Nat) (Option.some (Jvm.ClassFile.FieldType.object "SecondChances"))) ∈ lw_all := lw_g (lw_at lw_m3 184 rfl) rfl
theorem q743 : (Jvm.Cond.methodLink "SecondChances" (286 : Nat) ({ cls := "SecondChances", name := "findPlan", desc := "()V" } : Jvm.MethodName)) ∈ lw_all := lw_g (lw_at lw_m3 185 rfl) rfl
theorem q744 : (Jvm.Cond.privateMethod ({ cls := "SecondChances", name := "findPlan", desc := "()V" } : Jvm.MethodName)) ∈ lw_tbl := lw_at lw_m3 186 rfl
theorem q745 : (Jvm.Cond.instanceMethod ({ cls := "SecondChances", name := "findPlan", desc := "()V" } : Jvm.MethodName)) ∈ lw_all := lw_g (lw_at lw_m3 187 rfl) rfl
theorem q746 : (Jvm.Cond.code ({ cls := "SecondChances", name := "findPlan", desc := "()V" } : Jvm.MethodName) prog_1_method_43_code (4 : Nat) (Option.none : Option Jvm.ClassFile.FieldType)) ∈ lw_all := lw_g (lw_at lw_m3 188 rfl) rfl
theorem q747 : (Jvm.Cond.methodLink "SecondChances" (273 : Nat) ({ cls := "SecondChances", name := "worthOf", desc := "(I)I" } : Jvm.MethodName)) ∈ lw_all := lw_g (lw_at lw_m3 189 rfl) rfl
theorem q748 : (Jvm.Cond.privateMethod ({ cls := "SecondChances", name := "worthOf", desc := "(I)I" } : Jvm.MethodName)) ∈ lw_tbl := lw_at lw_m3 190 rfl
theorem q749 : (Jvm.Cond.instanceMethod ({ cls := "SecondChances", name := "worthOf", desc := "(I)I" } : Jvm.MethodName)) ∈ lw_all := lw_g (lw_at lw_m3 191 rfl) rfl
theorem q750 : (Jvm.Cond.code ({ cls := "SecondChances", name := "worthOf", desc := "(I)I" } : Jvm.MethodName) prog_1_method_40_code (4 : Nat) (Option.some Jvm.ClassFile.FieldType.int)) ∈ lw_all := lw_g (lw_at lw_m3 192 rfl) rfl
theorem q751 : (Jvm.Cond.methodLink "SecondChances" (276 : Nat) ({ cls := "SecondChances", name := "costOf", desc := "(II)I" } : Jvm.MethodName)) ∈ lw_all := lw_g (lw_at lw_m3 193 rfl) rfl
theorem q752 : (Jvm.Cond.privateMethod ({ cls := "SecondChances", name := "costOf", desc := "(II)I" } : Jvm.MethodName)) ∈ lw_tbl := lw_at lw_m3 194 rfl
theorem q753 : (Jvm.Cond.instanceMethod ({ cls := "SecondChances", name := "costOf", desc := "(II)I" } : Jvm.MethodName)) ∈ lw_all := lw_g (lw_at lw_m3 195 rfl) rfl
theorem q754 : (Jvm.Cond.code ({ cls := "SecondChances", name := "costOf", desc := "(II)I" } : Jvm.MethodName) prog_1_method_39_code (7 : Nat) (Option.some Jvm.ClassFile.FieldType.int)) ∈ lw_all := lw_g (lw_at lw_m3 196 rfl) rfl
theorem q755 : (Jvm.Cond.constant "SecondChances" (253 : Nat) (1000000 : Int32)) ∈ lw_all := lw_g (lw_at lw_m3 197 rfl) rfl
theorem q756 : (Jvm.Cond.methodLink "SecondChances" (254 : Nat) ({ cls := "SecondChances", name := "goTogether", desc := "(LSecondChances$Deed;LSecondChances$Deed;I)Z" } : Jvm.MethodName)) ∈ lw_all := lw_g (lw_at lw_m3 198 rfl) rfl
theorem q757 : (Jvm.Cond.privateMethod ({ cls := "SecondChances", name := "goTogether", desc := "(LSecondChances$Deed;LSecondChances$Deed;I)Z" } : Jvm.MethodName)) ∈ lw_tbl := lw_at lw_m3 199 rfl
theorem q758 : (Jvm.Cond.instanceMethod ({ cls := "SecondChances", name := "goTogether", desc := "(LSecondChances$Deed;LSecondChances$Deed;I)Z" } : Jvm.MethodName)) ∈ lw_all := lw_g (lw_at lw_m3 200 rfl) rfl
theorem q759 : (Jvm.Cond.code ({ cls := "SecondChances", name := "goTogether", desc := "(LSecondChances$Deed;LSecondChances$Deed;I)Z" } : Jvm.MethodName) prog_1_method_38_code (7 : Nat) (Option.some Jvm.ClassFile.FieldType.boolean)) ∈ lw_all := lw_g (lw_at lw_m3 201 rfl) rfl
theorem q760 : (Jvm.Cond.methodLink "SecondChances" (250 : Nat) ({ cls := "SecondChances", name := "asksPlace", desc := "(LSecondChances$Deed;)Z" } : Jvm.MethodName)) ∈ lw_all := lw_g (lw_at lw_m3 202 rfl) rfl
theorem q761 : (Jvm.Cond.privateMethod ({ cls := "SecondChances", name := "asksPlace", desc := "(LSecondChances$Deed;)Z" } : Jvm.MethodName)) ∈ lw_tbl := lw_at lw_m3 203 rfl
theorem q762 : (Jvm.Cond.instanceMethod ({ cls := "SecondChances", name := "asksPlace", desc := "(LSecondChances$Deed;)Z" } : Jvm.MethodName)) ∈ lw_all := lw_g (lw_at lw_m3 204 rfl) rfl
theorem q763 : (Jvm.Cond.code ({ cls := "SecondChances", name := "asksPlace", desc := "(LSecondChances$Deed;)Z" } : Jvm.MethodName) prog_1_method_26_code (2 : Nat) (Option.some Jvm.ClassFile.FieldType.boolean)) ∈ lw_all := lw_g (lw_at lw_m3 205 rfl) rfl
theorem q764 : (Jvm.Cond.methodLink "SecondChances" (279 : Nat) ({ cls := "SecondChances", name := "findBest", desc := "()V" } : Jvm.MethodName)) ∈ lw_all := lw_g (lw_at lw_m3 206 rfl) rfl
theorem q765 : (Jvm.Cond.privateMethod ({ cls := "SecondChances", name := "findBest", desc := "()V" } : Jvm.MethodName)) ∈ lw_tbl := lw_at lw_m3 207 rfl
theorem q766 : (Jvm.Cond.instanceMethod ({ cls := "SecondChances", name := "findBest", desc := "()V" } : Jvm.MethodName)) ∈ lw_all := lw_g (lw_at lw_m3 208 rfl) rfl
theorem q767 : (Jvm.Cond.code ({ cls := "SecondChances", name := "findBest", desc := "()V" } : Jvm.MethodName) prog_1_method_42_code (6 : Nat) (Option.none : Option Jvm.ClassFile.FieldType)) ∈ lw_all := lw_g (lw_at lw_m3 209 rfl) rfl
theorem q768 : (Jvm.Cond.methodLink "SecondChances" (258 : Nat) ({ cls := "java/lang/System", name := "arraycopy", desc := "(Ljava/lang/Object;ILjava/lang/Object;II)V" } : Jvm.MethodName)) ∈ lw_all := lw_g (lw_at lw_m3 210 rfl) rfl
theorem q769 : (Jvm.Cond.methodLink "SecondChances" (264 : Nat) ({ cls := "SecondChances", name := "isFixed", desc := "(II)Z" } : Jvm.MethodName)) ∈ lw_all := lw_g (lw_at lw_m3 211 rfl) rfl
theorem q770 : (Jvm.Cond.privateMethod ({ cls := "SecondChances", name := "isFixed", desc := "(II)Z" } : Jvm.MethodName)) ∈ lw_tbl := lw_at lw_m3 212 rfl
theorem q771 : (Jvm.Cond.instanceMethod ({ cls := "SecondChances", name := "isFixed", desc := "(II)Z" } : Jvm.MethodName)) ∈ lw_all := lw_g (lw_at lw_m3 213 rfl) rfl
theorem q772 : (Jvm.Cond.code ({ cls := "SecondChances", name := "isFixed", desc := "(II)Z" } : Jvm.MethodName) prog_1_method_41_code (5 : Nat) (Option.some Jvm.ClassFile.FieldType.boolean)) ∈ lw_all := lw_g (lw_at lw_m3 214 rfl) rfl
theorem q774 : (Jvm.Cond.instanceMethod ({ cls := "SecondChances", name := "when", desc := "(I)I" } : Jvm.MethodName)) ∈ lw_all := lw_g (lw_at lw_m3 216 rfl) rfl
theorem q775 : (Jvm.Cond.selects "SecondChances" ({ cls := "SecondChances", name := "when", desc := "(I)I" } : Jvm.MethodName) ({ cls := "SecondChances", name := "when", desc := "(I)I" } : Jvm.MethodName)) ∈ lw_all := lw_g (lw_at lw_m3 217 rfl) rfl
theorem q776 : (Jvm.Cond.code ({ cls := "SecondChances", name := "when", desc := "(I)I" } : Jvm.MethodName) prog_1_method_46_code (2 : Nat) (Option.some Jvm.ClassFile.FieldType.int)) ∈ lw_all := lw_g (lw_at lw_m3 218 rfl) rfl
theorem q778 : (Jvm.Cond.instanceMethod ({ cls := "SecondChances", name := "plan", desc := "(II)I" } : Jvm.MethodName)) ∈ lw_all := lw_g (lw_at lw_m3 220 rfl) rfl
theorem q779 : (Jvm.Cond.selects "SecondChances" ({ cls := "SecondChances", name := "plan", desc := "(II)I" } : Jvm.MethodName) ({ cls := "SecondChances", name := "plan", desc := "(II)I" } : Jvm.MethodName)) ∈ lw_all := lw_g (lw_at lw_m3 221 rfl) rfl
theorem q780 : (Jvm.Cond.code ({ cls := "SecondChances", name := "plan", desc := "(II)I" } : Jvm.MethodName) prog_1_method_49_code (5 : Nat) (Option.some Jvm.ClassFile.FieldType.int)) ∈ lw_all := lw_g (lw_at lw_m3 222 rfl) rfl
theorem q781 : (Jvm.Cond.methodLink "SecondChances" (295 : Nat) ({ cls := "SecondChances", name := "costBy", desc := "(LSecondChances$Sheet;)I" } : Jvm.MethodName)) ∈ lw_all := lw_g (lw_at lw_m3 223 rfl) rfl
theorem q782 : (Jvm.Cond.privateMethod ({ cls := "SecondChances", name := "costBy", desc := "(LSecondChances$Sheet;)I" } : Jvm.MethodName)) ∈ lw_tbl := lw_at lw_m3 224 rfl
theorem q783 : (Jvm.Cond.instanceMethod ({ cls := "SecondChances", name := "costBy", desc := "(LSecondChances$Sheet;)I" } : Jvm.MethodName)) ∈ lw_all := lw_g (lw_at lw_m3 225 rfl) rfl
theorem q784 : (Jvm.Cond.code ({ cls := "SecondChances", name := "costBy", desc := "(LSecondChances$Sheet;)I" } : Jvm.MethodName) prog_1_method_47_code (6 : Nat) (Option.some Jvm.ClassFile.FieldType.int)) ∈ lw_all := lw_g (lw_at lw_m3 226 rfl) rfl
theorem q785 : (Jvm.Cond.constantLong "SecondChances" (293 : Nat) (-1 : Int64)) ∈ lw_all := lw_g (lw_at lw_m3 227 rfl) rfl
theorem q786 : (Jvm.Cond.methodLink "SecondChances" (299 : Nat) ({ cls := "SecondChances", name := "worthBy", desc := "(LSecondChances$Sheet;)I" } : Jvm.MethodName)) ∈ lw_all := lw_g (lw_at lw_m3 228 rfl) rfl
theorem q787 : (Jvm.Cond.privateMethod ({ cls := "SecondChances", name := "worthBy", desc := "(LSecondChances$Sheet;)I" } : Jvm.MethodName)) ∈ lw_tbl := lw_at lw_m3 229 rfl
theorem q788 : (Jvm.Cond.instanceMethod ({ cls := "SecondChances", name := "worthBy", desc := "(LSecondChances$Sheet;)I" } : Jvm.MethodName)) ∈ lw_all := lw_g (lw_at lw_m3 230 rfl) rfl
theorem q789 : (Jvm.Cond.code ({ cls := "SecondChances", name := "worthBy", desc := "(LSecondChances$Sheet;)I" } : Jvm.MethodName) prog_1_method_48_code (4 : Nat) (Option.some Jvm.ClassFile.FieldType.int)) ∈ lw_all := lw_g (lw_at lw_m3 231 rfl) rfl
theorem q791 : (Jvm.Cond.instanceMethod ({ cls := "SecondChances", name := "asked", desc := "(II)I" } : Jvm.MethodName)) ∈ lw_all := lw_g (lw_at lw_m3 233 rfl) rfl
theorem q792 : (Jvm.Cond.selects "SecondChances" ({ cls := "SecondChances", name := "asked", desc := "(II)I" } : Jvm.MethodName) ({ cls := "SecondChances", name := "asked", desc := "(II)I" } : Jvm.MethodName)) ∈ lw_all := lw_g (lw_at lw_m3 234 rfl) rfl
theorem q793 : (Jvm.Cond.code ({ cls := "SecondChances", name := "asked", desc := "(II)I" } : Jvm.MethodName) prog_1_method_51_code (3 : Nat) (Option.some Jvm.ClassFile.FieldType.int)) ∈ lw_all := lw_g (lw_at lw_m3 235 rfl) rfl
theorem q794 : (Jvm.Cond.methodLink "SecondChances" (302 : Nat) ({ cls := "SecondChances", name := "askedOf", desc := "(II)I" } : Jvm.MethodName)) ∈ lw_all := lw_g (lw_at lw_m3 236 rfl) rfl
theorem q795 : (Jvm.Cond.privateMethod ({ cls := "SecondChances", name := "askedOf", desc := "(II)I" } : Jvm.MethodName)) ∈ lw_tbl := lw_at lw_m3 237 rfl
theorem q796 : (Jvm.Cond.instanceMethod ({ cls := "SecondChances", name := "askedOf", desc := "(II)I" } : Jvm.MethodName)) ∈ lw_all := lw_g (lw_at lw_m3 238 rfl) rfl
theorem q797 : (Jvm.Cond.code ({ cls := "SecondChances", name := "askedOf", desc := "(II)I" } : Jvm.MethodName) prog_1_method_50_code (5 : Nat) (Option.some Jvm.ClassFile.FieldType.int)) ∈ lw_all := lw_g (lw_at lw_m3 239 rfl) rfl
theorem q799 : (Jvm.Cond.instanceMethod ({ cls := "SecondChances", name := "crowd", desc := "(I)I" } : Jvm.MethodName)) ∈ lw_all := lw_g (lw_at lw_m4 1 rfl) rfl
theorem q800 : (Jvm.Cond.selects "SecondChances" ({ cls := "SecondChances", name := "crowd", desc := "(I)I" } : Jvm.MethodName) ({ cls := "SecondChances", name := "crowd", desc := "(I)I" } : Jvm.MethodName)) ∈ lw_all := lw_g (lw_at lw_m4 2 rfl) rfl
theorem q801 : (Jvm.Cond.code ({ cls := "SecondChances", name := "crowd", desc := "(I)I" } : Jvm.MethodName) prog_1_method_53_code (2 : Nat) (Option.some Jvm.ClassFile.FieldType.int)) ∈ lw_all := lw_g (lw_at lw_m4 3 rfl) rfl
theorem q802 : (Jvm.Cond.methodLink "SecondChances" (305 : Nat) ({ cls := "SecondChances", name := "crowdOf", desc := "(I)I" } : Jvm.MethodName)) ∈ lw_all := lw_g (lw_at lw_m4 4 rfl) rfl
theorem q803 : (Jvm.Cond.privateMethod ({ cls := "SecondChances", name := "crowdOf", desc := "(I)I" } : Jvm.MethodName)) ∈ lw_tbl := lw_at lw_m4 5 rfl
theorem q804 : (Jvm.Cond.instanceMethod ({ cls := "SecondChances", name := "crowdOf", desc := "(I)I" } : Jvm.MethodName)) ∈ lw_all := lw_g (lw_at lw_m4 6 rfl) rfl
theorem q805 : (Jvm.Cond.code ({ cls := "SecondChances", name := "crowdOf", desc := "(I)I" } : Jvm.MethodName) prog_1_method_52_code (7 : Nat) (Option.some Jvm.ClassFile.FieldType.int)) ∈ lw_all := lw_g (lw_at lw_m4 7 rfl) rfl
theorem q807 : (Jvm.Cond.instanceMethod ({ cls := "SecondChances", name := "likeness", desc := "(II)I" } : Jvm.MethodName)) ∈ lw_all := lw_g (lw_at lw_m4 9 rfl) rfl
theorem q808 : (Jvm.Cond.selects "SecondChances" ({ cls := "SecondChances", name := "likeness", desc := "(II)I" } : Jvm.MethodName) ({ cls := "SecondChances", name := "likeness", desc := "(II)I" } : Jvm.MethodName)) ∈ lw_all := lw_g (lw_at lw_m4 10 rfl) rfl
theorem q809 : (Jvm.Cond.code ({ cls := "SecondChances", name := "likeness", desc := "(II)I" } : Jvm.MethodName) prog_1_method_55_code (3 : Nat) (Option.some Jvm.ClassFile.FieldType.int)) ∈ lw_all := lw_g (lw_at lw_m4 11 rfl) rfl
theorem q810 : (Jvm.Cond.methodLink "SecondChances" (308 : Nat) ({ cls := "SecondChances", name := "likenessOf", desc := "(II)I" } : Jvm.MethodName)) ∈ lw_all := lw_g (lw_at lw_m4 12 rfl) rfl
theorem q811 : (Jvm.Cond.privateMethod ({ cls := "SecondChances", name := "likenessOf", desc := "(II)I" } : Jvm.MethodName)) ∈ lw_tbl := lw_at lw_m4 13 rfl
theorem q812 : (Jvm.Cond.instanceMethod ({ cls := "SecondChances", name := "likenessOf", desc := "(II)I" } : Jvm.MethodName)) ∈ lw_all := lw_g (lw_at lw_m4 14 rfl) rfl
theorem q813 : (Jvm.Cond.code ({ cls := "SecondChances", name := "likenessOf", desc := "(II)I" } : Jvm.MethodName) prog_1_method_54_code (5 : Nat) (Option.some Jvm.ClassFile.FieldType.int)) ∈ lw_all := lw_g (lw_at lw_m4 15 rfl) rfl
theorem q815 : (Jvm.Cond.instanceMethod ({ cls := "SecondChances", name := "odds", desc := "(III)J" } : Jvm.MethodName)) ∈ lw_all := lw_g (lw_at lw_m4 17 rfl) rfl
theorem q816 : (Jvm.Cond.selects "SecondChances" ({ cls := "SecondChances", name := "odds", desc := "(III)J" } : Jvm.MethodName) ({ cls := "SecondChances", name := "odds", desc := "(III)J" } : Jvm.MethodName)) ∈ lw_all := lw_g (lw_at lw_m4 18 rfl) rfl
theorem q817 : (Jvm.Cond.code ({ cls := "SecondChances", name := "odds", desc := "(III)J" } : Jvm.MethodName) prog_1_method_59_code (4 : Nat) (Option.some Jvm.ClassFile.FieldType.long)) ∈ lw_all := lw_g (lw_at lw_m4 19 rfl) rfl
theorem q818 : (Jvm.Cond.methodLink "SecondChances" (325 : Nat) ({ cls := "SecondChances", name := "oddsOf", desc := "(III)J" } : Jvm.MethodName)) ∈ lw_all := lw_g (lw_at lw_m4 20 rfl) rfl
theorem q819 : (Jvm.Cond.privateMethod ({ cls := "SecondChances", name := "oddsOf", desc := "(III)J" } : Jvm.MethodName)) ∈ lw_tbl := lw_at lw_m4 21 rfl
theorem q820 : (Jvm.Cond.instanceMethod ({ cls := "SecondChances", name := "oddsOf", desc := "(III)J" } : Jvm.MethodName)) ∈ lw_all := lw_g (lw_at lw_m4 22 rfl) rfl
theorem q821 : (Jvm.Cond.code ({ cls := "SecondChances", name := "oddsOf", desc := "(III)J" } : Jvm.MethodName) prog_1_method_58_code (10 : Nat) (Option.some Jvm.ClassFile.FieldType.long)) ∈ lw_all := lw_g (lw_at lw_m4 23 rfl) rfl
theorem q822 : (Jvm.Cond.methodLink "SecondChances" (315 : Nat) ({ cls := "SecondChances", name := "no", desc := "(I)J" } : Jvm.MethodName)) ∈ lw_all := lw_g (lw_at lw_m4 24 rfl) rfl
theorem q823 : (Jvm.Cond.static ({ cls := "SecondChances", name := "no", desc := "(I)J" } : Jvm.MethodName)) ∈ lw_all := lw_g (lw_at lw_m4 25 rfl) rfl
theorem q824 : (Jvm.Cond.code ({ cls := "SecondChances", name := "no", desc := "(I)J" } : Jvm.MethodName) prog_1_method_3_code (1 : Nat) (Option.some Jvm.ClassFile.FieldType.long)) ∈ lw_all := lw_g (lw_at lw_m4 26 rfl) rfl
theorem q825 : (Jvm.Cond.constantLong "SecondChances" (82 : Nat) (-9223372036854775808 : Int64)) ∈ lw_all := lw_g (lw_at lw_m4 27 rfl) rfl
theorem q826 : (Jvm.Cond.constantLong "SecondChances" (319 : Nat) (16 : Int64)) ∈ lw_all := lw_g (lw_at lw_m4 28 rfl) rfl
theorem q827 : (Jvm.Cond.methodLink "SecondChances" (321 : Nat) ({ cls := "SecondChances", name := "part", desc := "(JJI)J" } : Jvm.MethodName)) ∈ lw_all := lw_g (lw_at lw_m4 29 rfl) rfl
theorem q828 : (Jvm.Cond.static ({ cls := "SecondChances", name := "part", desc := "(JJI)J" } : Jvm.MethodName)) ∈ lw_all := lw_g (lw_at lw_m4 30 rfl) rfl
theorem q829 : (Jvm.Cond.code ({ cls := "SecondChances", name := "part", desc := "(JJI)J" } : Jvm.MethodName) prog_1_method_57_code (5 : Nat) (Option.some Jvm.ClassFile.FieldType.long)) ∈ lw_all := lw_g (lw_at lw_m4 31 rfl) rfl
theorem q830 : (Jvm.Cond.methodLink "SecondChances" (311 : Nat) ({ cls := "SecondChances", name := "divisor", desc := "(JJ)J" } : Jvm.MethodName)) ∈ lw_all := lw_g (lw_at lw_m4 32 rfl) rfl
theorem q831 : (Jvm.Cond.static ({ cls := "SecondChances", name := "divisor", desc := "(JJ)J" } : Jvm.MethodName)) ∈ lw_all := lw_g (lw_at lw_m4 33 rfl) rfl
theorem q832 : (Jvm.Cond.code ({ cls := "SecondChances", name := "divisor", desc := "(JJ)J" } : Jvm.MethodName) prog_1_method_56_code (4 : Nat) (Option.some Jvm.ClassFile.FieldType.long)) ∈ lw_all := lw_g (lw_at lw_m4 34 rfl) rfl
theorem q834 : (Jvm.Cond.instanceMethod ({ cls := "SecondChances", name := "seen", desc := "(III)I" } : Jvm.MethodName)) ∈ lw_all := lw_g (lw_at lw_m4 36 rfl) rfl
theorem q835 : (Jvm.Cond.selects "SecondChances" ({ cls := "SecondChances", name := "seen", desc := "(III)I" } : Jvm.MethodName) ({ cls := "SecondChances", name := "seen", desc := "(III)I" } : Jvm.MethodName)) ∈ lw_all := lw_g (lw_at lw_m4 37 rfl) rfl
theorem q836 : (Jvm.Cond.code ({ cls := "SecondChances", name := "seen", desc := "(III)I" } : Jvm.MethodName) prog_1_method_60_code (4 : Nat) (Option.some Jvm.ClassFile.FieldType.int)) ∈ lw_all := lw_g (lw_at lw_m4 38 rfl) rfl
theorem q837 : (Jvm.Cond.constantLong "SecondChances" (329 : Nat) (5 : Int64)) ∈ lw_all := lw_g (lw_at lw_m4 39 rfl) rfl
theorem q838 : (Jvm.Cond.classLink "SecondChances" (331 : Nat) "SecondChances$Sight") ∈ lw_all := lw_g (lw_at lw_m4 40 rfl) rfl
theorem q840 : (Jvm.Cond.methodLink "SecondChances" (333 : Nat) ({ cls := "SecondChances$Sight", name := "<init>", desc := "(III)V" } : Jvm.MethodName)) ∈ lw_all := lw_g (lw_at lw_m4 42 rfl) rfl
theorem q854 : (Jvm.Cond.methodLink "SecondChances" (336 : Nat) ({ cls := "java/util/ArrayList", name := "add", desc := "(Ljava/lang/Object;)Z" } : Jvm.MethodName)) ∈ lw_all := lw_g (lw_at lw_m4 56 rfl) rfl
theorem q856 : (Jvm.Cond.instanceMethod ({ cls := "SecondChances", name := "isFalse", desc := "(II)I" } : Jvm.MethodName)) ∈ lw_all := lw_g (lw_at lw_m4 58 rfl) rfl
theorem q857 : (Jvm.Cond.selects "SecondChances" ({ cls := "SecondChances", name := "isFalse", desc := "(II)I" } : Jvm.MethodName) ({ cls := "SecondChances", name := "isFalse", desc := "(II)I" } : Jvm.MethodName)) ∈ lw_all := lw_g (lw_at lw_m4 59 rfl) rfl
theorem q858 : (Jvm.Cond.code ({ cls := "SecondChances", name := "isFalse", desc := "(II)I" } : Jvm.MethodName) prog_1_method_62_code (3 : Nat) (Option.some Jvm.ClassFile.FieldType.int)) ∈ lw_all := lw_g (lw_at lw_m4 60 rfl) rfl
theorem q859 : (Jvm.Cond.methodLink "SecondChances" (340 : Nat) ({ cls := "SecondChances", name := "isSight", desc := "(I)Z" } : Jvm.MethodName)) ∈ lw_all := lw_g (lw_at lw_m4 61 rfl) rfl
theorem q860 : (Jvm.Cond.privateMethod ({ cls := "SecondChances", name := "isSight", desc := "(I)Z" } : Jvm.MethodName)) ∈ lw_tbl := lw_at lw_m4 62 rfl
theorem q861 : (Jvm.Cond.instanceMethod ({ cls := "SecondChances", name := "isSight", desc := "(I)Z" } : Jvm.MethodName)) ∈ lw_all := lw_g (lw_at lw_m4 63 rfl) rfl
theorem q862 : (Jvm.Cond.code ({ cls := "SecondChances", name := "isSight", desc := "(I)Z" } : Jvm.MethodName) prog_1_method_61_code (2 : Nat) (Option.some Jvm.ClassFile.FieldType.boolean)) ∈ lw_all := lw_g (lw_at lw_m4 64 rfl) rfl
theorem q863 : (Jvm.Cond.methodLink "SecondChances" (343 : Nat) ({ cls := "SecondChances$Sight", name := "isFalse", desc := "(LSecondChances$Sight;)Z" } : Jvm.MethodName)) ∈ lw_all := lw_g (lw_at lw_m4 65 rfl) rfl
theorem q871 : (Jvm.Cond.instanceMethod ({ cls := "SecondChances", name := "hats", desc := "(I)I" } : Jvm.MethodName)) ∈ lw_all := lw_g (lw_at lw_m4 73 rfl) rfl
theorem q872 : (Jvm.Cond.selects "SecondChances" ({ cls := "SecondChances", name := "hats", desc := "(I)I" } : Jvm.MethodName) ({ cls := "SecondChances", name := "hats", desc := "(I)I" } : Jvm.MethodName)) ∈ lw_all := lw_g (lw_at lw_m4 74 rfl) rfl
theorem q873 : (Jvm.Cond.code ({ cls := "SecondChances", name := "hats", desc := "(I)I" } : Jvm.MethodName) prog_1_method_65_code (2 : Nat) (Option.some Jvm.ClassFile.FieldType.int)) ∈ lw_all := lw_g (lw_at lw_m4 75 rfl) rfl
theorem q874 : (Jvm.Cond.methodLink "SecondChances" (350 : Nat) ({ cls := "SecondChances", name := "hatsOf", desc := "(I)I" } : Jvm.MethodName)) ∈ lw_all := lw_g (lw_at lw_m4 76 rfl) rfl
theorem q875 : (Jvm.Cond.privateMethod ({ cls := "SecondChances", name := "hatsOf", desc := "(I)I" } : Jvm.MethodName)) ∈ lw_tbl := lw_at lw_m4 77 rfl
theorem q876 : (Jvm.Cond.instanceMethod ({ cls := "SecondChances", name := "hatsOf", desc := "(I)I" } : Jvm.MethodName)) ∈ lw_all := lw_g (lw_at lw_m4 78 rfl) rfl
theorem q877 : (Jvm.Cond.code ({ cls := "SecondChances", name := "hatsOf", desc := "(I)I" } : Jvm.MethodName) prog_1_method_64_code (5 : Nat) (Option.some Jvm.ClassFile.FieldType.int)) ∈ lw_all := lw_g (lw_at lw_m4 79 rfl) rfl
theorem q878 : (Jvm.Cond.methodLink "SecondChances" (347 : Nat) ({ cls := "SecondChances", name := "isClean", desc := "(I)Z" } : Jvm.MethodName)) ∈ lw_all := lw_g (lw_at lw_m4 80 rfl) rfl
theorem q879 : (Jvm.Cond.privateMethod ({ cls := "SecondChances", name := "isClean", desc := "(I)Z" } : Jvm.MethodName)) ∈ lw_tbl := lw_at lw_m4 81 rfl
theorem q880 : (Jvm.Cond.instanceMethod ({ cls := "SecondChances", name := "isClean", desc := "(I)Z" } : Jvm.MethodName)) ∈ lw_all := lw_g (lw_at lw_m4 82 rfl) rfl
theorem q881 : (Jvm.Cond.code ({ cls := "SecondChances", name := "isClean", desc := "(I)Z" } : Jvm.MethodName) prog_1_method_63_code (5 : Nat) (Option.some Jvm.ClassFile.FieldType.boolean)) ∈ lw_all := lw_g (lw_at lw_m4 83 rfl) rfl
theorem q883 : (Jvm.Cond.instanceMethod ({ cls := "SecondChances", name := "after", desc := "(II)I" } : Jvm.MethodName)) ∈ lw_all := lw_g (lw_at lw_m4 85 rfl) rfl
theorem q884 : (Jvm.Cond.selects "SecondChances" ({ cls := "SecondChances", name := "after", desc := "(II)I" } : Jvm.MethodName) ({ cls := "SecondChances", name := "after", desc := "(II)I" } : Jvm.MethodName)) ∈ lw_all := lw_g (lw_at lw_m4 86 rfl) rfl
theorem q885 : (Jvm.Cond.code ({ cls := "SecondChances", name := "after", desc := "(II)I" } : Jvm.MethodName) prog_1_method_67_code (3 : Nat) (Option.some Jvm.ClassFile.FieldType.int)) ∈ lw_all := lw_g (lw_at lw_m4 87 rfl) rfl
theorem q886 : (Jvm.Cond.methodLink "SecondChances" (353 : Nat) ({ cls := "SecondChances", name := "isAnyDeed", desc := "(I)Z" } : Jvm.MethodName)) ∈ lw_all := lw_g (lw_at lw_m4 88 rfl) rfl
theorem q887 : (Jvm.Cond.static ({ cls := "SecondChances", name := "isAnyDeed", desc := "(I)Z" } : Jvm.MethodName)) ∈ lw_all := lw_g (lw_at lw_m4 89 rfl) rfl
theorem q888 : (Jvm.Cond.code ({ cls := "SecondChances", name := "isAnyDeed", desc := "(I)Z" } : Jvm.MethodName) prog_1_method_66_code (1 : Nat) (Option.some Jvm.ClassFile.FieldType.boolean)) ∈ lw_all := lw_g (lw_at lw_m4 90 rfl) rfl
theorem q890 : (Jvm.Cond.instanceMethod ({ cls := "SecondChances", name := "forget", desc := "(I)I" } : Jvm.MethodName)) ∈ lw_all := lw_g (lw_at lw_m4 92 rfl) rfl
theorem q891 : (Jvm.Cond.selects "SecondChances" ({ cls := "SecondChances", name := "forget", desc := "(I)I" } : Jvm.MethodName) ({ cls := "SecondChances", name := "forget", desc := "(I)I" } : Jvm.MethodName)) ∈ lw_all := lw_g (lw_at lw_m4 93 rfl) rfl
theorem q892 : (Jvm.Cond.code ({ cls := "SecondChances", name := "forget", desc := "(I)I" } : Jvm.MethodName) prog_1_method_68_code (3 : Nat) (Option.some Jvm.ClassFile.FieldType.int)) ∈ lw_all := lw_g (lw_at lw_m4 94 rfl) rfl
theorem q893 : (Jvm.Cond.methodLink "SecondChances" (356 : Nat) ({ cls := "java/util/ArrayList", name := "clear", desc := "()V" } : Jvm.MethodName)) ∈ lw_all := lw_g (lw_at lw_m4 95 rfl) rfl
theorem q895 : (Jvm.Cond.instanceMethod ({ cls := "SecondChances", name := "spared", desc := "(I)I" } : Jvm.MethodName)) ∈ lw_all := lw_g (lw_at lw_m4 97 rfl) rfl
theorem q896 : (Jvm.Cond.selects "SecondChances" ({ cls := "SecondChances", name := "spared", desc := "(I)I" } : Jvm.MethodName) ({ cls := "SecondChances", name := "spared", desc := "(I)I" } : Jvm.MethodName)) ∈ lw_all := lw_g (lw_at lw_m4 98 rfl) rfl
theorem q897 : (Jvm.Cond.code ({ cls := "SecondChances", name := "spared", desc := "(I)I" } : Jvm.MethodName) prog_1_method_71_code (2 : Nat) (Option.some Jvm.ClassFile.FieldType.int)) ∈ lw_all := lw_g (lw_at lw_m4 99 rfl) rfl
theorem q898 : (Jvm.Cond.methodLink "SecondChances" (363 : Nat) ({ cls := "SecondChances", name := "sparedOf", desc := "(I)I" } : Jvm.MethodName)) ∈ lw_all := lw_g (lw_at lw_m4 100 rfl) rfl
theorem q899 : (Jvm.Cond.privateMethod ({ cls := "SecondChances", name := "sparedOf", desc := "(I)I" } : Jvm.MethodName)) ∈ lw_tbl := lw_at lw_m4 101 rfl
theorem q900 : (Jvm.Cond.instanceMethod ({ cls := "SecondChances", name := "sparedOf", desc := "(I)I" } : Jvm.MethodName)) ∈ lw_all := lw_g (lw_at lw_m4 102 rfl) rfl
theorem q901 : (Jvm.Cond.code ({ cls := "SecondChances", name := "sparedOf", desc := "(I)I" } : Jvm.MethodName) prog_1_method_70_code (2 : Nat) (Option.some Jvm.ClassFile.FieldType.int)) ∈ lw_all := lw_g (lw_at lw_m4 103 rfl) rfl
theorem q902 : (Jvm.Cond.methodLink "SecondChances" (360 : Nat) ({ cls := "SecondChances", name := "reaches", desc := "(I)I" } : Jvm.MethodName)) ∈ lw_all := lw_g (lw_at lw_m4 104 rfl) rfl
theorem q903 : (Jvm.Cond.privateMethod ({ cls := "SecondChances", name := "reaches", desc := "(I)I" } : Jvm.MethodName)) ∈ lw_tbl := lw_at lw_m4 105 rfl
theorem q904 : (Jvm.Cond.instanceMethod ({ cls := "SecondChances", name := "reaches", desc := "(I)I" } : Jvm.MethodName)) ∈ lw_all := lw_g (lw_at lw_m4 106 rfl) rfl
theorem q905 : (Jvm.Cond.code ({ cls := "SecondChances", name := "reaches", desc := "(I)I" } : Jvm.MethodName) prog_1_method_69_code (6 : Nat) (Option.some Jvm.ClassFile.FieldType.int)) ∈ lw_all := lw_g (lw_at lw_m4 107 rfl) rfl
theorem q906 : (Jvm.Cond.classLink "SecondChances" (359 : Nat) "[I") ∈ lw_all := lw_g (lw_at lw_m4 108 rfl) rfl
theorem q908 : (Jvm.Cond.instanceMethod ({ cls := "SecondChances", name := "best", desc := "()I" } : Jvm.MethodName)) ∈ lw_all := lw_g (lw_at lw_m4 110 rfl) rfl
theorem q909 : (Jvm.Cond.selects "SecondChances" ({ cls := "SecondChances", name := "best", desc := "()I" } : Jvm.MethodName) ({ cls := "SecondChances", name := "best", desc := "()I" } : Jvm.MethodName)) ∈ lw_all := lw_g (lw_at lw_m4 111 rfl) rfl
theorem q910 : (Jvm.Cond.code ({ cls := "SecondChances", name := "best", desc := "()I" } : Jvm.MethodName) prog_1_method_73_code (1 : Nat) (Option.some Jvm.ClassFile.FieldType.int)) ∈ lw_all := lw_g (lw_at lw_m4 112 rfl) rfl
theorem q911 : (Jvm.Cond.methodLink "SecondChances" (369 : Nat) ({ cls := "SecondChances", name := "bestNow", desc := "()I" } : Jvm.MethodName)) ∈ lw_all := lw_g (lw_at lw_m4 113 rfl) rfl
theorem q912 : (Jvm.Cond.privateMethod ({ cls := "SecondChances", name := "bestNow", desc := "()I" } : Jvm.MethodName)) ∈ lw_tbl := lw_at lw_m4 114 rfl
theorem q913 : (Jvm.Cond.instanceMethod ({ cls := "SecondChances", name := "bestNow", desc := "()I" } : Jvm.MethodName)) ∈ lw_all := lw_g (lw_at lw_m4 115 rfl) rfl
theorem q914 : (Jvm.Cond.code ({ cls := "SecondChances", name := "bestNow", desc := "()I" } : Jvm.MethodName) prog_1_method_72_code (5 : Nat) (Option.some Jvm.ClassFile.FieldType.int)) ∈ lw_all := lw_g (lw_at lw_m4 116 rfl) rfl
theorem q915 : (Jvm.Cond.methodLink "SecondChances" (366 : Nat) ({ cls := "java/lang/Math", name := "max", desc := "(II)I" } : Jvm.MethodName)) ∈ lw_all := lw_g (lw_at lw_m4 117 rfl) rfl
theorem q917 : (Jvm.Cond.instanceMethod ({ cls := "SecondChances", name := "regrets", desc := "(II)J" } : Jvm.MethodName)) ∈ lw_all := lw_g (lw_at lw_m4 119 rfl) rfl
theorem q918 : (Jvm.Cond.selects "SecondChances" ({ cls := "SecondChances", name := "regrets", desc := "(II)J" } : Jvm.MethodName) ({ cls := "SecondChances", name := "regrets", desc := "(II)J" } : Jvm.MethodName)) ∈ lw_all := lw_g (lw_at lw_m4 120 rfl) rfl
theorem q919 : (Jvm.Cond.code ({ cls := "SecondChances", name := "regrets", desc := "(II)J" } : Jvm.MethodName) prog_1_method_76_code (3 : Nat) (Option.some Jvm.ClassFile.FieldType.long)) ∈ lw_all := lw_g (lw_at lw_m4 121 rfl) rfl
theorem q920 : (Jvm.Cond.constantLong "SecondChances" (376 : Nat) (8 : Int64)) ∈ lw_all := lw_g (lw_at lw_m4 122 rfl) rfl
theorem q921 : (Jvm.Cond.methodLink "SecondChances" (378 : Nat) ({ cls := "SecondChances", name := "regretsOf", desc := "(II)J" } : Jvm.MethodName)) ∈ lw_all := lw_g (lw_at lw_m4 123 rfl) rfl
theorem q922 : (Jvm.Cond.privateMethod ({ cls := "SecondChances", name := "regretsOf", desc := "(II)J" } : Jvm.MethodName)) ∈ lw_tbl := lw_at lw_m4 124 rfl
theorem q923 : (Jvm.Cond.instanceMethod ({ cls := "SecondChances", name := "regretsOf", desc := "(II)J" } : Jvm.MethodName)) ∈ lw_all := lw_g (lw_at lw_m4 125 rfl) rfl
theorem q924 : (Jvm.Cond.code ({ cls := "SecondChances", name := "regretsOf", desc := "(II)J" } : Jvm.MethodName) prog_1_method_75_code (5 : Nat) (Option.some Jvm.ClassFile.FieldType.long)) ∈ lw_all := lw_g (lw_at lw_m4 126 rfl) rfl
theorem q925 : (Jvm.Cond.methodLink "SecondChances" (372 : Nat) ({ cls := "SecondChances", name := "choices", desc := "(II)J" } : Jvm.MethodName)) ∈ lw_all := lw_g (lw_at lw_m4 127 rfl) rfl
theorem q926 : (Jvm.Cond.static ({ cls := "SecondChances", name := "choices", desc := "(II)J" } : Jvm.MethodName)) ∈ lw_all := lw_g (lw_at lw_m4 128 rfl) rfl
theorem q927 : (Jvm.Cond.code ({ cls := "SecondChances", name := "choices", desc := "(II)J" } : Jvm.MethodName) prog_1_method_74_code (5 : Nat) (Option.some Jvm.ClassFile.FieldType.long)) ∈ lw_all := lw_g (lw_at lw_m4 129 rfl) rfl
theorem q929 : (Jvm.Cond.instanceMethod ({ cls := "SecondChances", name := "sheet", desc := "(III)I" } : Jvm.MethodName)) ∈ lw_all := lw_g (lw_at lw_m4 131 rfl) rfl
theorem q930 : (Jvm.Cond.selects "SecondChances" ({ cls := "SecondChances", name := "sheet", desc := "(III)I" } : Jvm.MethodName) ({ cls := "SecondChances", name := "sheet", desc := "(III)I" } : Jvm.MethodName)) ∈ lw_all := lw_g (lw_at lw_m4 132 rfl) rfl
theorem q931 : (Jvm.Cond.codeWith ({ cls := "SecondChances", name := "sheet", desc := "(III)I" } : Jvm.MethodName) prog_1_method_79_code (5 : Nat) (Option.some Jvm.ClassFile.FieldType.int) [((28 : Nat), (43 : Nat), (44 : Nat), (385 : Nat))]) ∈ lw_all := lw_g (lw_at lw_m4 133 rfl) rfl
theorem q932 : (Jvm.Cond.classLink "SecondChances" (385 : Nat) "java/lang/NegativeArraySizeException") ∈ lw_all := lw_g (lw_at lw_m4 134 rfl) rfl
theorem q962 : (Jvm.Cond.methodLink "SecondChances" (381 : Nat) ({ cls := "SecondChances", name := "rowOf", desc := "(II)Ljava/lang/Object;" } : Jvm.MethodName)) ∈ lw_all := lw_g (lw_at lw_m4 164 rfl) rfl
theorem q963 : (Jvm.Cond.static ({ cls := "SecondChances", name := "rowOf", desc := "(II)Ljava/lang/Object;" } : Jvm.MethodName)) ∈ lw_all := lw_g (lw_at lw_m4 165 rfl) rfl
theorem q964 : (Jvm.Cond.code ({ cls := "SecondChances", name := "rowOf", desc := "(II)Ljava/lang/Object;" } : Jvm.MethodName) prog_1_method_78_code (2 : Nat) (Option.some (Jvm.ClassFile.FieldType.object "java/lang/Object"))) ∈ lw_all := lw_g (lw_at lw_m4 166 rfl) rfl
theorem q967 : (Jvm.Cond.instanceMethod ({ cls := "SecondChances", name := "lose", desc := "(I)I" } : Jvm.MethodName)) ∈ lw_all := lw_g (lw_at lw_m4 169 rfl) rfl
theorem q968 : (Jvm.Cond.selects "SecondChances" ({ cls := "SecondChances", name := "lose", desc := "(I)I" } : Jvm.MethodName) ({ cls := "SecondChances", name := "lose", desc := "(I)I" } : Jvm.MethodName)) ∈ lw_all := lw_g (lw_at lw_m4 170 rfl) rfl
theorem q969 : (Jvm.Cond.code ({ cls := "SecondChances", name := "lose", desc := "(I)I" } : Jvm.MethodName) prog_1_method_80_code (3 : Nat) (Option.some Jvm.ClassFile.FieldType.int)) ∈ lw_all := lw_g (lw_at lw_m4 171 rfl) rfl
theorem q971 : (Jvm.Cond.instanceMethod ({ cls := "SecondChances", name := "put", desc := "(IIII)I" } : Jvm.MethodName)) ∈ lw_all := lw_g (lw_at lw_m4 173 rfl) rfl
theorem q972 : (Jvm.Cond.selects "SecondChances" ({ cls := "SecondChances", name := "put", desc := "(IIII)I" } : Jvm.MethodName) ({ cls := "SecondChances", name := "put", desc := "(IIII)I" } : Jvm.MethodName)) ∈ lw_all := lw_g (lw_at lw_m4 174 rfl) rfl
theorem q973 : (Jvm.Cond.codeWith ({ cls := "SecondChances", name := "put", desc := "(IIII)I" } : Jvm.MethodName) prog_1_method_81_code (6 : Nat) (Option.some Jvm.ClassFile.FieldType.int) [((40 : Nat), (54 : Nat), (55 : Nat), (390 : Nat)), ((40 : Nat), (54 : Nat), (63 : Nat), (392 : Nat))]) ∈ lw_all := lw_g (lw_at lw_m4 175 rfl) rfl
theorem q974 : (Jvm.Cond.classLink "SecondChances" (390 : Nat) "java/lang/ClassCastException") ∈ lw_all := lw_g (lw_at lw_m4 176 rfl) rfl
theorem q988 : (Jvm.Cond.classLink "SecondChances" (392 : Nat) "java/lang/ArrayIndexOutOfBoundsException") ∈ lw_all := lw_g (lw_at lw_m4 190 rfl) rfl
theorem q1007 : (Jvm.Cond.methodLink "SecondChances" (387 : Nat) ({ cls := "SecondChances$Sheet", name := "lay", desc := "(III)V" } : Jvm.MethodName)) ∈ lw_all := lw_g (lw_at lw_m4 209 rfl) rfl
theorem q1012 : (Jvm.Cond.instanceMethod ({ cls := "SecondChances", name := "get", desc := "(III)I" } : Jvm.MethodName)) ∈ lw_all := lw_g (lw_at lw_m4 214 rfl) rfl
theorem q1013 : (Jvm.Cond.selects "SecondChances" ({ cls := "SecondChances", name := "get", desc := "(III)I" } : Jvm.MethodName) ({ cls := "SecondChances", name := "get", desc := "(III)I" } : Jvm.MethodName)) ∈ lw_all := lw_g (lw_at lw_m4 215 rfl) rfl
theorem q1014 : (Jvm.Cond.codeWith ({ cls := "SecondChances", name := "get", desc := "(III)I" } : Jvm.MethodName) prog_1_method_82_code (5 : Nat) (Option.some Jvm.ClassFile.FieldType.int) [((40 : Nat), (51 : Nat), (52 : Nat), (390 : Nat)), ((40 : Nat), (51 : Nat), (60 : Nat), (392 : Nat))]) ∈ lw_all := lw_g (lw_at lw_m4 216 rfl) rfl
theorem q1015 : (Jvm.Cond.constant "SecondChances" (88 : Nat) (-2147483648 : Int32)) ∈ lw_all := lw_g (lw_at lw_m4 217 rfl) rfl
theorem q1016 : (Jvm.Cond.methodLink "SecondChances" (394 : Nat) ({ cls := "SecondChances", name := "lowest", desc := "(I)I" } : Jvm.MethodName)) ∈ lw_all := lw_g (lw_at lw_m4 218 rfl) rfl
theorem q1017 : (Jvm.Cond.privateMethod ({ cls := "SecondChances", name := "lowest", desc := "(I)I" } : Jvm.MethodName)) ∈ lw_tbl := lw_at lw_m4 219 rfl
theorem q1018 : (Jvm.Cond.instanceMethod ({ cls := "SecondChances", name := "lowest", desc := "(I)I" } : Jvm.MethodName)) ∈ lw_all := lw_g (lw_at lw_m4 220 rfl) rfl
theorem q1019 : (Jvm.Cond.code ({ cls := "SecondChances", name := "lowest", desc := "(I)I" } : Jvm.MethodName) prog_1_method_5_code (2 : Nat) (Option.some Jvm.ClassFile.FieldType.int)) ∈ lw_all := lw_g (lw_at lw_m4 221 rfl) rfl
theorem q1021 : (Jvm.Cond.instanceMethod ({ cls := "SecondChances", name := "copy", desc := "(IIIII)I" } : Jvm.MethodName)) ∈ lw_all := lw_g (lw_at lw_m4 223 rfl) rfl
theorem q1022 : (Jvm.Cond.selects "SecondChances" ({ cls := "SecondChances", name := "copy", desc := "(IIIII)I" } : Jvm.MethodName) ({ cls := "SecondChances", name := "copy", desc := "(IIIII)I" } : Jvm.MethodName)) ∈ lw_all := lw_g (lw_at lw_m4 224 rfl) rfl
theorem q1023 : (Jvm.Cond.codeWith ({ cls := "SecondChances", name := "copy", desc := "(IIIII)I" } : Jvm.MethodName) prog_1_method_83_code (7 : Nat) (Option.some Jvm.ClassFile.FieldType.int) [((74 : Nat), (101 : Nat), (102 : Nat), (397 : Nat))]) ∈ lw_all := lw_g (lw_at lw_m4 225 rfl) rfl
theorem q1024 : (Jvm.Cond.classLink "SecondChances" (397 : Nat) "java/lang/IndexOutOfBoundsException") ∈ lw_all := lw_g (lw_at lw_m4 226 rfl) rfl
theorem q1026 : (Jvm.Cond.instanceMethod ({ cls := "SecondChances", name := "write", desc := "(I)I" } : Jvm.MethodName)) ∈ lw_all := lw_g (lw_at lw_m4 228 rfl) rfl
theorem q1027 : (Jvm.Cond.selects "SecondChances" ({ cls := "SecondChances", name := "write", desc := "(I)I" } : Jvm.MethodName) ({ cls := "SecondChances", name := "write", desc := "(I)I" } : Jvm.MethodName)) ∈ lw_all := lw_g (lw_at lw_m4 229 rfl) rfl
theorem q1028 : (Jvm.Cond.code ({ cls := "SecondChances", name := "write", desc := "(I)I" } : Jvm.MethodName) prog_1_method_84_code (5 : Nat) (Option.some Jvm.ClassFile.FieldType.int)) ∈ lw_all := lw_g (lw_at lw_m4 230 rfl) rfl
theorem q1030 : (Jvm.Cond.instanceMethod ({ cls := "SecondChances", name := "count", desc := "(I)I" } : Jvm.MethodName)) ∈ lw_all := lw_g (lw_at lw_m4 232 rfl) rfl
theorem q1031 : (Jvm.Cond.selects "SecondChances" ({ cls := "SecondChances", name := "count", desc := "(I)I" } : Jvm.MethodName) ({ cls := "SecondChances", name := "count", desc := "(I)I" } : Jvm.MethodName)) ∈ lw_all := lw_g (lw_at lw_m4 233 rfl) rfl
theorem q1032 : (Jvm.Cond.code ({ cls := "SecondChances", name := "count", desc := "(I)I" } : Jvm.MethodName) prog_1_method_85_code (4 : Nat) (Option.some Jvm.ClassFile.FieldType.int)) ∈ lw_all := lw_g (lw_at lw_m4 234 rfl) rfl
theorem q1034 : (Jvm.Cond.instanceMethod ({ cls := "SecondChances", name := "digest", desc := "()J" } : Jvm.MethodName)) ∈ lw_all := lw_g (lw_at lw_m4 236 rfl) rfl
theorem q1035 : (Jvm.Cond.selects "SecondChances" ({ cls := "SecondChances", name := "digest", desc := "()J" } : Jvm.MethodName) ({ cls := "SecondChances", name := "digest", desc := "()J" } : Jvm.MethodName)) ∈ lw_all := lw_g (lw_at lw_m4 237 rfl) rfl
theorem q1036 : (Jvm.Cond.code ({ cls := "SecondChances", name := "digest", desc := "()J" } : Jvm.MethodName) prog_1_method_86_code (5 : Nat) (Option.some Jvm.ClassFile.FieldType.long)) ∈ lw_all := lw_g (lw_at lw_m4 238 rfl) rfl
theorem q1037 : (Jvm.Cond.constantLong "SecondChances" (405 : Nat) (17 : Int64)) ∈ lw_all := lw_g (lw_at lw_m4 239 rfl) rfl
theorem q1038 : (Jvm.Cond.constantLong "SecondChances" (407 : Nat) (31 : Int64)) ∈ lw_all := lw_g (lw_at lw_m5 0 rfl) rfl
theorem q1039 : (Jvm.Cond.methodLink "SecondChances" (409 : Nat) ({ cls := "SecondChances", name := "count", desc := "(I)I" } : Jvm.MethodName)) ∈ lw_all := lw_g (lw_at lw_m5 1 rfl) rfl
theorem q1502 : (Jvm.Cond.castable "SecondChances" "java/lang/Object") ∈ lw_tbl := lw_at lw_m6 224 rfl
theorem in_X0 : ∀ w ∈ wsX00, w ∈ lw_all := lw_in wsX00 [249, 251, 253, 255, 257, 259, 261, 263, 265, 267, 269, 271, 273, 275, 277, 279, 281, 283, 285, 287] (by decide +kernel) (by decide +kernel)
